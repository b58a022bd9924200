/-! the keeper's work: two segments are joined, whole -/
def jnR (S2 : St) (x0 : Option Nat) (x1 : Int32) : Option (Unit × St) :=
  (gR S2 x0 0 4).bind fun v4 =>
  gd (grc S2 v4 8) <|
  bn (h_J2_get S2 v4 x1) fun v6 S5 =>
  gd (gcst S5 v6 7) <|
  (gR S5 x0 0 4).bind fun v7 =>
  gd (grc S5 v7 8) <|
  bn (h_J2_remove S5 v7 (x1 + (1 : Int32))) fun v9 S8 =>
  gd (gcst S8 v9 7) <|
  (pI .int S8 v6 7 1 (0 : Int32)).bind fun S10 =>
  (gR S10 v9 7 0).bind fun v11 =>
  gd (grc S10 v11 8) <|
  bn (h_J2_iterator S10 v11) fun v13 S12 =>
  n_X1_join_b152 FU S12 v6 v13
section
variable {S S' S1 S0 : St} {g g' : GA} {T U : List Nat} {n m c x y t i j d : Nat} {f f' : Fl} {rs : List RtV} {en : En} {o : Nat → Option Nat} {ac : List AcV} {sg : List SgV} {w w' : Int64} {nm : Nm} {s : Sg} {rk : Nat → Nat} {k p : Nat} {e : EnV} {q l : List Nat} {r : RtV} {D L id : Nat} {A B : SgV} {b : Nat}
theorem k_join (h : RK g s S) (hU : LU (zS s)) (hS : SS f (zE s) (zS s)) (h6 : fMd f ≤ 60) (h2 : 2 ≤ (zS s).length) : ∃ S', n_X1_join S (some (g.2 1 0)) = some ((), S') ∧ KX [0, 9, 12, 13, 24] [] 92 g S g S' ∧ RK g (wS s (joiS (zS s))) S' ∧ ∃ A B, (zS s)[bstS (zS s) ((zS s).length - 2)]? = some A ∧ (zS s)[bstS (zS s) ((zS s).length - 2) + 1]? = some B ∧ joiS (zS s) = jnS (zS s) (bstS (zS s) ((zS s).length - 2)) A B := by
  obtain ⟨h1, h2', h3, h4, h5, h6', h7, h8⟩ := h
  obtain ⟨sg, esg⟩ : ∃ sg, sg = zS s := ⟨_, rfl⟩
  rw [← esg] at hU hS h2 h6' h4 ⊢
  have hs := h6'
  obtain ⟨s1, s2, s3⟩ := h6'
  have h4l := hS.1
  obtain ⟨N, eN⟩ : ∃ N, N = sg.length := ⟨_, rfl⟩
  rw [← eN] at h2 h4l ⊢
  have lst : ∀ {i : Nat}, i < N → ∃ z, sg[i]? = some z := fun {i} hi => ⟨sg[i], List.getElem?_eq_getElem (by omega)⟩
  have sz : h_J2_size S (some (g.2 24 0)) = some (nI N, S) := by rw [al_size s1, List.length_map, ← eN]
  have getS : ∀ {i : Nat} {z : SgV}, sg[i]? = some z → i < 100 → h_J2_get S (some (g.2 24 0)) (nI i) = some (some (g.2 12 z.1), S) := fun {i z} hz hi => al_get s1 (by omega) (by rw [List.getElem?_map, hz]; rfl)
  have clS : ∀ {i : Nat} {z : SgV}, sg[i]? = some z → grc S (some (g.2 12 z.1)) 7 = true := fun {i z} hz => grc_o (s3 z (List.mem_of_getElem? hz)).1
  have szS : ∀ {i : Nat} {z : SgV}, sg[i]? = some z → n_X9_size S (some (g.2 12 z.1)) = some (nI z.2.length, S) := fun {i z} hz => k_size hs (List.mem_of_getElem? hz)
  have hle : ∀ x ∈ sg, x.2.length ≤ 60 := fun x hxm => by
    have h1 := nd_len _ _ (hS.2 x hxm).1 (fun v hv => by
      obtain ⟨p, hp, rfl⟩ := List.mem_map.mp hv
      exact ((hS.2 x hxm).2 p hp).1)
    rw [List.length_map] at h1
    omega
  have sel : n_X1_join S (some (g.2 1 0)) = jnR S (some (g.2 1 0)) (nI (bstS sg (N - 2))) := by
    have key := lp_up (fun m k => n_X1_join_b4 m S (some (g.2 1 0)) (nI (bstS sg k)) (nI (k + 1))) (N - 2) (jnR S (some (g.2 1 0)) (nI (bstS sg (N - 2)))) (fun _ => True) (fun m k hk _ => Or.inl ⟨trivial, ?_⟩) (fun m _ => ?_) FU 0 (Nat.zero_le _) (by simp only [FU]; omega) trivial
    · simp only [n_X1_join]
      have e1 : (1 : Int32) = nI (0 + 1) := by decide +kernel
      have e0 : (0 : Int32) = nI (bstS sg 0) := by simp only [bstS]; rw [nI_0]
      rw [e1]
      conv => lhs; rw [e0]
      exact key
    · obtain ⟨x1, hx1⟩ := lst (show k + 1 < N by omega)
      obtain ⟨x2, hx2⟩ := lst (show k + 2 < N by omega)
      have hb := bstS_le sg k
      obtain ⟨y1, hy1⟩ := lst (show bstS sg k < N by omega)
      obtain ⟨y2, hy2⟩ := lst (show bstS sg k + 1 < N by omega)
      have l1 := hle x1 (List.mem_of_getElem? hx1)
      have l2 := hle x2 (List.mem_of_getElem? hx2)
      have l3 := hle y1 (List.mem_of_getElem? hy1)
      have l4 := hle y2 (List.mem_of_getElem? hy2)
      have hstop : (nI N ≤ nI (k + 2)) = False := by
        rw [nI_leE (by omega) (by omega)]; exact eq_false (by omega)
      have hcmp : (nI (y1.2.length + y2.2.length) ≤ nI (x1.2.length + x2.2.length)) = (y1.2.length + y2.2.length ≤ x1.2.length + x2.2.length) := nI_leE (by omega) (by omega)
      have hbs : bstS sg (k + 1) = if x1.2.length + x2.2.length < y1.2.length + y2.2.length then k + 1 else bstS sg k := by
        simp only [bstS, hx1, hx2, hy1, hy2, Option.map_some, Option.getD_some]
      simp only [n_X1_join_b4, n_X1_join_b99, kn_4 h1, ob_s, s1.cl, gd_t, sz, bn_s, nI_1, hstop, if_false, getS hx1 (by omega), gcst_g (clS hx1), clS hx1, szS hx1, getS hx2 (by omega), gcst_g (clS hx2), clS hx2, szS hx2, getS hy1 (by omega), gcst_g (clS hy1), clS hy1, szS hy1, getS hy2 (by omega), gcst_g (clS hy2), clS hy2, szS hy2, nI_add, hcmp]
      rw [hbs]
      by_cases c : y1.2.length + y2.2.length ≤ x1.2.length + x2.2.length
      · rw [if_pos c, if_neg (by omega)]
      · rw [if_neg c, if_pos (by omega)]
    · have hstop : (nI N ≤ nI (N - 2 + 1 + 1)) = True := by
        rw [nI_leE (by omega) (by omega)]; exact eq_true (by omega)
      simp only [n_X1_join_b4, kn_4 h1, ob_s, s1.cl, gd_t, sz, bn_s, nI_1, hstop, if_true, jnR]
  obtain ⟨b, eb⟩ : ∃ b, b = bstS sg (N - 2) := ⟨_, rfl⟩
  have hb := bstS_le sg (N - 2)
  rw [← eb] at sel hb ⊢
  obtain ⟨A, hA⟩ := lst (show b < N by omega)
  obtain ⟨B, hB⟩ := lst (show b + 1 < N by omega)
  have hjo : joiS sg = jnS sg b A B := by
    unfold joiS
    rw [← eN, ← eb, hA, hB]
    rfl
  have hAm := List.mem_of_getElem? hA
  have hBm := List.mem_of_getElem? hB
  have hne : A.1 ≠ B.1 := fun e => by have := LU_ij hU hA hB e; omega
  obtain ⟨a1, a2, a3, a4⟩ := s3 A hAm
  obtain ⟨b1, b2, b3, b4⟩ := s3 B hBm
  obtain ⟨S8, r1, r2, r3⟩ := al_remove s1 (i := b + 1) (x := some (g.2 12 B.1)) (by omega) (by rw [List.getElem?_map, hB]; rfl)
  have n24 : ∀ {z u v}, g.1 z = (u, v) → u ≠ 24 → z ≠ g.2 24 0 := fun {z u v} hz hu e => by
    rw [e, s2] at hz; exact hu (congrArg (·.1) hz).symm
  have x8 : KX [0, 12, 24] [] 0 g S g S8 := KX_ch1 r3 s2
  have a1' : S8.1 (g.2 12 A.1) = some (cO 7 [vR (some (g.2 13 A.1)), vI (nI (A.2.countP fun p => p.2))]) := (r3.1 _ (n24 a3 (by decide))).trans a1
  obtain ⟨S10, e10⟩ : ∃ S10, S10 = sup S8 (g.2 12 A.1) (cO 7 [vR (some (g.2 13 A.1)), vI 0]) := ⟨_, rfl⟩
  have p10 : pI .int S8 (some (g.2 12 A.1)) 7 1 0 = some S10 := by rw [e10, pI_e a1', if_pos (by simp)]; rfl
  have x10 : KX [0, 12, 24] [] 0 g S g S10 := KX_n (KX_tr x8 (by rw [e10]; exact KX_ch1 (Ch_sup _) a3)) (by omega)
  have nAB : g.2 12 B.1 ≠ g.2 12 A.1 := fun z => by
    rw [z, a3] at b3; exact hne (congrArg (·.2) b3)
  have hB10 : S10.1 (g.2 12 B.1) = S.1 (g.2 12 B.1) := by rw [e10, sup_ne _ _ nAB, r3.1 _ (n24 b3 (by decide))]
  obtain ⟨S', j1, j2, j3, j4, j5⟩ := k_joinL hs h4 h8.2.2.2 hU hS h6 hA hB (by rw [e10]; exact sup_at _ _ _) x10 hB10
  have xx : KX [0, 9, 12, 13, 24] [] 92 g S g S' := KX_n (KX_tr (KX_up x10 (by decide) (by decide) (Nat.le_refl _)) (KX_up j2 (by decide) (by decide) (Nat.le_refl _))) (by omega)
  refine ⟨S', ?_, xx, ⟨h1.kx xx, h2'.kx xx, h3.kx xx, ?_, h5.kx xx, ?_, h7.kx xx, h8.kx xx (FR_sm h8.2.2.2 xx.le)⟩, A, B, hA, hB, hjo⟩
  · rw [sel]
    have n10 := h1.kx x10
    have q13 : gR S10 (some (g.2 12 B.1)) 7 0 = some (some (g.2 13 B.1)) := by rw [gR_e (hB10.trans b1)]; rfl
    have l13 : grc S10 (some (g.2 13 B.1)) 8 = true := (b2.fr (x10.at1 b4 (by decide))).cl
    have cB8 : grc S8 (some (g.2 12 B.1)) 7 = true := grc_o ((r3.1 _ (n24 b3 (by decide))).trans b1)
    simp only [jnR, kn_4 h1, ob_s, s1.cl, gd_t, getS hA (by omega), bn_s, gcst_g (clS hA), nI_1, r1, gcst_g cB8, p10, q13, l13]
    exact j1
  · show RKe g (zE s) (sgO (joiS sg)) S'
    rw [hjo]
    obtain ⟨⟨hh, u1, u2⟩, u3, u4⟩ := h4
    have bx : bxr S' = bxr S := bxr_c xx.cs
    refine ⟨⟨hh, (xx.at1 u3 (by decide)).trans u1, u2⟩, u3, fun k e hk => ?_⟩
    obtain ⟨c1, c2, c3, c4⟩ := u4 k e hk
    exact ⟨j5 k e hk, by rw [bx]; exact c2.fr (xx.at1 c4 (by decide)), c3, c4⟩
  · show RKs g (joiS sg) S'
    rw [hjo]
    refine ⟨?_, s2, fun z hz => ?_⟩
    · have e : (jnS sg b A B).map (fun x => some (g.2 12 x.1)) = (sg.map fun x => some (g.2 12 x.1)).eraseIdx (b + 1) := by
        have h := congrArg (List.map fun i => some (g.2 12 i)) (jnS_ids (B := B) hA)
        rw [map_erI, List.map_map, List.map_map] at h
        exact h
      rw [e]
      exact r2.fr (by rw [j2.at1 s2 (by decide), e10, sup_ne _ _ (Ne.symm (n24 a3 (by decide)))])
    · rcases jnS_mem hA hB hz with rfl | ⟨i, i1, i2, i3⟩
      · refine ⟨?_, ?_, a3, a4⟩
        · rw [j2.at1 a3 (by decide), e10, sup_at]
          simp only [sgC, lv_dead]
          rw [nI_0]
        · rw [lv_app]; exact j3
      · obtain ⟨c1, c2, c3, c4⟩ := s3 z (List.mem_of_getElem? i3)
        have nz : z.1 ≠ A.1 := fun e => i1 (LU_ij hU i3 hA e)
        have nz12 : g.2 12 z.1 ≠ g.2 12 A.1 := fun e => by rw [e, a3] at c3; exact nz (congrArg (·.2) c3).symm
        have nz13 : g.2 13 z.1 ≠ g.2 13 A.1 := fun e => by rw [e, a4] at c4; exact nz (congrArg (·.2) c4).symm
        refine ⟨?_, ?_, c3, c4⟩
        · rw [j2.at1 c3 (by decide), e10, sup_ne _ _ nz12, r3.1 _ (n24 c3 (by decide))]; exact c1
        · exact c2.fr (by rw [j4 _ (by rw [c4]) nz13, x10.at1 c4 (by decide)])
/-! segments, plain: what is kept -/
theorem LU_fil (hU : LU sg) (P : SgV → Bool) : LU (sg.filter P) := ⟨List.Sublist.nodup (List.Sublist.map _ List.filter_sublist) hU.1, fun x hx y hy k h1 h2 => hU.2 x (List.mem_filter.mp hx).1 y (List.mem_filter.mp hy).1 k h1 h2⟩
theorem SS_fil (hS : SS f en sg) (P : SgV → Bool) : SS f en (sg.filter P) := ⟨Nat.le_trans (List.length_filter_le _ _) hS.1, fun x hx => hS.2 x (List.mem_filter.mp hx).1⟩
theorem SS_jn (hU : LU sg) (hS : SS f en sg) (hA : sg[b]? = some A) (hB : sg[b + 1]? = some B) : SS f en (jnS sg b A B) ∧ (jnS sg b A B).length + 1 = sg.length := by
  have hl : (jnS sg b A B).length + 1 = sg.length := by
    have := (List.getElem?_eq_some_iff.mp hB).1
    unfold jnS
    rw [List.length_eraseIdx_of_lt (by rw [List.length_set]; exact this), List.length_set]
    omega
  have hAm := List.mem_of_getElem? hA
  have hBm := List.mem_of_getElem? hB
  have hne : A.1 ≠ B.1 := fun e => by have := LU_ij hU hA hB e; omega
  refine ⟨⟨by have := hS.1; omega, fun x hx => ?_⟩, hl⟩
  rcases jnS_mem hA hB hx with rfl | ⟨i, -, -, i3⟩
  · refine ⟨?_, fun p hp => ?_⟩
    · show ((lvS A ++ lvS B).map (·.1)).Nodup
      rw [List.map_append, List.nodup_append]
      refine ⟨List.Sublist.nodup (List.Sublist.map _ List.filter_sublist) (hS.2 A hAm).1, List.Sublist.nodup (List.Sublist.map _ List.filter_sublist) (hS.2 B hBm).1, fun x hx y hy e => ?_⟩
      obtain ⟨p, hp, rfl⟩ := List.mem_map.mp hx
      obtain ⟨p', hp', rfl⟩ := List.mem_map.mp hy
      have m1 := List.mem_filter.mp hp
      have m2 := List.mem_filter.mp hp'
      have l1 : (p.1, false) ∈ A.2 := by
        have : p = (p.1, false) := Prod.ext rfl (by simpa using m1.2)
        rw [← this]; exact m1.1
      have l2 : (p.1, false) ∈ B.2 := by
        have : p' = (p.1, false) := Prod.ext e.symm (by simpa using m2.2)
        rw [← this]; exact m2.1
      exact hne (hU.2 A hAm B hBm p.1 l1 l2)
    · have hp : p ∈ lvS A ++ lvS B := hp
      rcases List.mem_append.mp hp with z | z
      · exact (hS.2 A hAm).2 p (List.mem_filter.mp z).1
      · exact (hS.2 B hBm).2 p (List.mem_filter.mp z).1
  · exact hS.2 x (List.mem_of_getElem? i3)
end
