/-! the keeper's work: two segments are joined -/
def ad12 (g : GA) (x : SgV) : Option Nat := some (g.2 12 x.1)
section
variable {S S' S1 S0 : St} {g g' : GA} {T U : List Nat} {n m c x y t i j d : Nat} {f f' : Fl} {rs : List RtV} {en : En} {o : Nat → Option Nat} {ac : List AcV} {sg : List SgV} {w w' : Int64} {nm : Nm} {s : Sg} {rk : Nat → Nat} {k p : Nat} {e : EnV} {q l : List Nat} {r : RtV} {D L id : Nat} {A B : SgV} {b : Nat}
/-- a joined one -/
def jnS (sg : List SgV) (b : Nat) (A B : SgV) : List SgV := (sg.set b (A.1, lvS A ++ lvS B)).eraseIdx (b + 1)
theorem jnS_ids (hA : sg[b]? = some A) : (jnS sg b A B).map (·.1) = (sg.map (·.1)).eraseIdx (b + 1) := by
  unfold jnS
  rw [map_erI, List.map_set]
  congr 1
  have h : (sg.map (·.1))[b]? = some A.1 := by rw [List.getElem?_map, hA]; rfl
  have hl := (List.getElem?_eq_some_iff.mp h).1
  refine List.ext_getElem? fun j => ?_
  rw [List.getElem?_set]
  split
  · next e => subst e; exact h.symm
  · rfl
theorem jnS_mem (hA : sg[b]? = some A) (hB : sg[b + 1]? = some B) {z : SgV} (hz : z ∈ jnS sg b A B) : z = (A.1, lvS A ++ lvS B) ∨ ∃ i, i ≠ b ∧ i ≠ b + 1 ∧ sg[i]? = some z := by
  unfold jnS at hz
  obtain ⟨j, hj⟩ := List.mem_iff_getElem?.mp hz
  rw [List.getElem?_eraseIdx] at hj
  split at hj
  · next hlt =>
    rw [List.getElem?_set] at hj
    split at hj
    · next e =>
      split at hj
      · left; exact (Option.some.inj hj).symm
      · cases hj
    · next e => right; exact ⟨j, fun z => e z.symm, by omega, hj⟩
  · next hlt =>
    rw [List.getElem?_set, if_neg (by omega)] at hj
    right; exact ⟨j + 1, by omega, by omega, hj⟩
theorem jnS_in1 (hA : sg[b]? = some A) : ((A.1, lvS A ++ lvS B) : SgV) ∈ jnS sg b A B := by
  unfold jnS
  refine List.mem_iff_getElem?.mpr ⟨b, ?_⟩
  rw [List.getElem?_eraseIdx, if_pos (by omega), List.getElem?_set, if_pos rfl, if_pos (List.getElem?_eq_some_iff.mp hA).1]
theorem jnS_in2 {z : SgV} (hi : i ≠ b) (hi1 : i ≠ b + 1) (hz : sg[i]? = some z) : z ∈ jnS sg b A B := by
  unfold jnS
  rcases Nat.lt_or_ge i (b + 1) with h | h
  · refine List.mem_iff_getElem?.mpr ⟨i, ?_⟩
    rw [List.getElem?_eraseIdx, if_pos h, List.getElem?_set, if_neg (by omega)]; exact hz
  · refine List.mem_iff_getElem?.mpr ⟨i - 1, ?_⟩
    rw [List.getElem?_eraseIdx, if_neg (by omega), List.getElem?_set, if_neg (by omega), show i - 1 + 1 = i by omega]; exact hz
theorem lv_in {x : SgV} : ((k, false) ∈ lvS x) ↔ (k, false) ∈ x.2 := by
  unfold lvS
  rw [List.mem_filter]
  simp
theorem LU_ij (hU : LU sg) {i j : Nat} {x y : SgV} (hx : sg[i]? = some x) (hy : sg[j]? = some y) (e : x.1 = y.1) : i = j := by
  have h1 : (sg.map (·.1))[i]? = some x.1 := by rw [List.getElem?_map, hx]; rfl
  have h2 : (sg.map (·.1))[j]? = some y.1 := by rw [List.getElem?_map, hy]; rfl
  exact (List.getElem?_inj (List.getElem?_eq_some_iff.mp h1).1 hU.1).mp (by rw [h1, h2, e])
/-- where a living place of a joined list comes from -/
theorem jnS_org (hU : LU sg) (hA : sg[b]? = some A) (hB : sg[b + 1]? = some B) {z : SgV} (hz : z ∈ jnS sg b A B) (hk : (k, false) ∈ z.2) : ∃ z0 ∈ sg, (k, false) ∈ z0.2 ∧ z.1 = if z0.1 = B.1 then A.1 else z0.1 := by
  rcases jnS_mem hA hB hz with rfl | ⟨i, h1, h2, h3⟩
  · rcases List.mem_append.mp hk with h | h
    · exact ⟨A, List.mem_of_getElem? hA, lv_in.mp h, by split <;> rfl⟩
    · exact ⟨B, List.mem_of_getElem? hB, lv_in.mp h, by rw [if_pos rfl]⟩
  · exact ⟨z, List.mem_of_getElem? h3, hk, by rw [if_neg (fun e => h2 (LU_ij hU h3 hB e))]⟩
theorem LU_jn (hU : LU sg) (hA : sg[b]? = some A) (hB : sg[b + 1]? = some B) : LU (jnS sg b A B) := by
  refine ⟨?_, fun x hx y hy k h1 h2 => ?_⟩
  · rw [jnS_ids hA]
    exact List.Sublist.nodup (List.eraseIdx_sublist _ _) hU.1
  · obtain ⟨x0, hx0, u1, u2⟩ := jnS_org hU hA hB hx h1
    obtain ⟨y0, hy0, v1, v2⟩ := jnS_org hU hA hB hy h2
    rw [u2, v2, hU.2 x0 hx0 y0 hy0 k u1 v1]
theorem sgO_jn (hU : LU sg) (hA : sg[b]? = some A) (hB : sg[b + 1]? = some B) (k : Nat) : sgO (jnS sg b A B) k = if (k, false) ∈ B.2 then some A.1 else sgO sg k := by
  have hJ := LU_jn hU hA hB
  by_cases hk : (k, false) ∈ B.2
  · rw [if_pos hk]
    exact sgO_at (x := (A.1, lvS A ++ lvS B)) hJ (jnS_in1 hA) (List.mem_append_right _ (lv_in.mpr hk))
  · rw [if_neg hk]
    cases hs : sgO sg k with
    | none =>
      cases hj : sgO (jnS sg b A B) k with
      | none => rfl
      | some d =>
        obtain ⟨z, hz, -, hz2⟩ := sgO_in hj
        obtain ⟨z0, hz0, u1, -⟩ := jnS_org hU hA hB hz hz2
        exact absurd u1 (sgO_no hs hz0)
    | some d =>
      obtain ⟨x, hx, rfl, hx2⟩ := sgO_in hs
      obtain ⟨i, hi⟩ := List.mem_iff_getElem?.mp hx
      by_cases e1 : i = b
      · subst e1
        rw [hA] at hi
        cases hi
        exact sgO_at (x := (A.1, lvS A ++ lvS B)) hJ (jnS_in1 hA) (List.mem_append_left _ (lv_in.mpr hx2))
      · by_cases e2 : i = b + 1
        · subst e2
          rw [hB] at hi
          cases hi
          exact absurd hx2 hk
        · exact sgO_at hJ (jnS_in2 e1 e2 hi) hx2
theorem lv_app (A B : SgV) (i : Nat) : lvS (i, lvS A ++ lvS B) = lvS A ++ lvS B := by
  unfold lvS
  simp only [List.filter_append, List.filter_filter, Bool.and_self]
theorem lv_dead (A B : SgV) : (lvS A ++ lvS B).countP (fun p => p.2) = 0 := by
  rw [List.countP_eq_zero]
  intro p hp
  rcases List.mem_append.mp hp with h | h
  · have := (List.mem_filter.mp h).2; simpa using this
  · have := (List.mem_filter.mp h).2; simpa using this
/-- the places of one go to another -/
theorem k_joinL (hs : RKs g sg S) (he : RKe g en (sgO sg) S) (hF : FR g S) (hU : LU sg) (hS : SS f en sg) (h6 : fMd f ≤ 60) (hA : sg[b]? = some A) (hB : sg[b + 1]? = some B) (hc : S1.1 (g.2 12 A.1) = some (cO 7 [vR (some (g.2 13 A.1)), vI 0])) (hx : KX [0, 12, 24] [] 0 g S g S1) (hB1 : S1.1 (g.2 12 B.1) = S.1 (g.2 12 B.1)) : ∃ S', (bn (h_J2_iterator S1 (some (g.2 13 B.1))) fun v S12 => n_X1_join_b152 FU S12 (some (g.2 12 A.1)) v) = some ((), S') ∧ KX [0, 9, 13] [] 92 g S1 g S' ∧ isAL S' (g.2 13 A.1) ((lvS A ++ lvS B).map fun p => some (g.2 9 p.1)) ∧ (∀ a, (g.1 a).1 = 13 → a ≠ g.2 13 A.1 → S'.1 a = S1.1 a) ∧ ∀ k e, en k = some e → S'.1 (g.2 9 k) = some (enC g k e (sgO (jnS sg b A B) k)) := by
  obtain ⟨s1, s2, s3⟩ := hs
  have hAm := List.mem_of_getElem? hA
  have hBm := List.mem_of_getElem? hB
  obtain ⟨a1, a2, a3, a4⟩ := s3 A hAm
  obtain ⟨b1, b2, b3, b4⟩ := s3 B hBm
  have hne : A.1 ≠ B.1 := fun e => by have := LU_ij hU hA hB e; omega
  have nAB : g.2 13 B.1 ≠ g.2 13 A.1 := fun z => by
    rw [z, a4] at b4; exact hne (congrArg (·.2) b4)
  have hlen : ∀ x ∈ sg, (lvS x).length ≤ 60 := fun x hxm => by
    have h1 := nd_len _ _ (hS.2 x hxm).1 (fun v hv => by
      obtain ⟨p, hp, rfl⟩ := List.mem_map.mp hv
      exact ((hS.2 x hxm).2 p hp).1)
    rw [List.length_map] at h1
    have := List.length_filter_le (fun p : Nat × Bool => !p.2) x.2
    unfold lvS
    omega
  -- living places are of entries
  have own : ∀ x ∈ sg, ∀ p ∈ lvS x, ∃ e, en p.1 = some e := fun x hxm p hp => by
    obtain ⟨q1, q2⟩ := List.mem_filter.mp hp
    exact Option.isSome_iff_exists.mp (((hS.2 x hxm).2 p q1).2.2 (by simpa using q2))
  have hsum : (lvS A).length + (lvS B).length ≤ 60 := by
    have hnd : ((lvS A ++ lvS B).map (·.1)).Nodup := by
      rw [List.map_append, List.nodup_append]
      refine ⟨List.Sublist.nodup (List.Sublist.map _ List.filter_sublist) (hS.2 A hAm).1, List.Sublist.nodup (List.Sublist.map _ List.filter_sublist) (hS.2 B hBm).1, fun x hx y hy e => ?_⟩
      obtain ⟨p, hp, rfl⟩ := List.mem_map.mp hx
      obtain ⟨p', hp', rfl⟩ := List.mem_map.mp hy
      have m1 := List.mem_filter.mp hp
      have m2 := List.mem_filter.mp hp'
      have l1 : (p.1, false) ∈ A.2 := by
        have : p = (p.1, false) := Prod.ext rfl (by simpa using m1.2)
        rw [← this]; exact m1.1
      have l2 : (p.1, false) ∈ B.2 := by
        have : p' = (p.1, false) := Prod.ext e.symm (by simpa using m2.2)
        rw [← this]; exact m2.1
      exact hne (hU.2 A hAm B hBm p.1 l1 l2)
    have := nd_len (fMd f) _ hnd (fun v hv => by
      obtain ⟨p, hp, rfl⟩ := List.mem_map.mp hv
      rcases List.mem_append.mp hp with h | h
      · exact ((hS.2 A hAm).2 p (List.mem_filter.mp h).1).1
      · exact ((hS.2 B hBm).2 p (List.mem_filter.mp h).1).1)
    rw [List.length_map, List.length_append] at this
    omega
  have lA1 : isAL S1 (g.2 13 A.1) ((lvS A).map fun p => some (g.2 9 p.1)) := a2.fr (hx.at1 a4 (by decide))
  have lB1 : isAL S1 (g.2 13 B.1) ((lvS B).map fun p => some (g.2 9 p.1)) := b2.fr (hx.at1 b4 (by decide))
  have F1 : FR g S1 := FR_sm hF hx.le
  obtain ⟨S2, i1, i2, i3⟩ := al_it lB1 (by rw [List.length_map]; have := hlen B hBm; omega) (ow_lt F1 b4 (by decide))
  obtain ⟨it, eit⟩ : ∃ it, it = S1.2.1 := ⟨_, rfl⟩
  rw [← eit] at i1 i2 i3
  have it0 : (g.1 it).1 = 0 := F1 it (by omega)
  have neo : ∀ {z u v}, g.1 z = (u, v) → u ≠ 0 → it ≠ z := fun {z u v} hz hu e => by
    rw [← e] at hz; rw [hz] at it0; exact hu it0
  have x2 : KX [0, 9, 13] [] 1 g S1 g S2 := KX_ch i3 (by decide) (by rw [it0]; decide)
  have lA2 : isAL S2 (g.2 13 A.1) ((lvS A).map fun p => some (g.2 9 p.1)) := lA1.fr (i3.1 _ (Ne.symm (neo a4 (by decide))))
  have kk := alK_fr (i3.1 (g.2 13 A.1) (Ne.symm (neo a4 (by decide))))
  have key := lp_st (fun m _ (c : St) => n_X1_join_b152 m c (some (g.2 12 A.1)) (some it)) (fun c => some ((), c)) (fun j c => KX [0, 9, 13] [] (alK c (g.2 13 A.1) - alK S2 (g.2 13 A.1)) g S2 g c ∧ alK S2 (g.2 13 A.1) ≤ alK c (g.2 13 A.1) ∧ alK c (g.2 13 A.1) ≤ max (alK S2 (g.2 13 A.1)) 91 ∧ IA c it (g.2 13 B.1) ((lvS B).map fun p => some (g.2 9 p.1)) j ∧ isAL c (g.2 13 A.1) ((lvS A ++ (lvS B).take j).map fun p => some (g.2 9 p.1)) ∧ (∀ a, (g.1 a).1 = 13 → a ≠ g.2 13 A.1 → c.1 a = S2.1 a) ∧ ∀ k e, en k = some e → c.1 (g.2 9 k) = some (enC g k e (if ((lvS B).take j).any (fun p => p.1 == k) then some A.1 else sgO sg k))) (fun c => KX [0, 9, 13] [] (alK c (g.2 13 A.1) - alK S2 (g.2 13 A.1)) g S2 g c ∧ alK c (g.2 13 A.1) ≤ max (alK S2 (g.2 13 A.1)) 91 ∧ isAL c (g.2 13 A.1) ((lvS A ++ lvS B).map fun p => some (g.2 9 p.1)) ∧ (∀ a, (g.1 a).1 = 13 → a ≠ g.2 13 A.1 → c.1 a = S2.1 a) ∧ ∀ k e, en k = some e → c.1 (g.2 9 k) = some (enC g k e (if (lvS B).any (fun p => p.1 == k) then some A.1 else sgO sg k))) (lvS B).length ?_ ?_ FU 0 S2 (Nat.zero_le _) (by simp only [FU]; have := hlen B hBm; omega) ⟨KX_n (KX_rf (by decide)) (Nat.zero_le _), Nat.le_refl _, by omega, i2, by simpa using lA2, fun _ _ _ => rfl, fun k e hk => ?_⟩
  · obtain ⟨c, ⟨c1, c2, c3, c4, c5⟩, e⟩ := key
    refine ⟨c, by rw [i1, bn_s, e], KX_n (KX_tr x2 c1) (by omega), c3, fun a h1 h2 => by rw [c4 a h1 h2, i3.1 a (fun z => by rw [z, it0] at h1; cases h1)], fun k e hk => ?_⟩
    rw [c5 k e hk, sgO_jn hU hA hB]
    have : ((lvS B).any (fun p => p.1 == k) = true) = ((k, false) ∈ B.2) := by
      refine propext ⟨fun h => ?_, fun h => List.any_eq_true.mpr ⟨_, lv_in.mpr h, by simp⟩⟩
      obtain ⟨p, hp, hq⟩ := List.any_eq_true.mp h
      have m := List.mem_filter.mp hp
      have : p = (k, false) := Prod.ext (by simpa using hq) (by simpa using m.2)
      rw [← this]; exact m.1
    simp only [this]
  · intro m j c hj ⟨y1, y2, y3, y4, y5, y6, y7⟩
    obtain ⟨z, hz⟩ : ∃ z, (lvS B)[j]? = some z := ⟨(lvS B)[j], List.getElem?_eq_getElem hj⟩
    have hzm := List.mem_of_getElem? hz
    obtain ⟨ez, hez⟩ := own B hBm z hzm
    have o9 : g.1 (g.2 9 z.1) = (9, z.1) := (he.2.2 z.1 ez hez).2.2.1
    obtain ⟨c1, d1, d2, d3⟩ := ia_next y4 (x := some (g.2 9 z.1)) (by rw [List.getElem?_map, hz]; rfl)
    have w1 : KX [0, 9, 13] [] 0 g c g c1 := KX_ch d3 (by decide) (by rw [it0]; decide)
    have oc1 : ∀ a, a ≠ it → c1.1 a = c.1 a := d3.1
    have cz := y7 z.1 ez hez
    have cz1 : c1.1 (g.2 9 z.1) = some (enC g z.1 ez (if ((lvS B).take j).any (fun p => p.1 == z.1) then some A.1 else sgO sg z.1)) := by rw [oc1 _ (Ne.symm (neo o9 (by decide)))]; exact cz
    obtain ⟨c2, e2⟩ : ∃ c2, c2 = sup c1 (g.2 9 z.1) (enC g z.1 ez (some A.1)) := ⟨_, rfl⟩
    have p2 : pR c1 (some (g.2 9 z.1)) 5 5 (some (g.2 12 A.1)) = some c2 := by
      rw [e2, pR_e (show c1.1 (g.2 9 z.1) = some (cO 5 [vR (some (g.2 2 z.1)), vR (some (g.2 2 ez.1)), vI ez.2.1, vI (nI ez.2.2.1), vR (some (g.2 10 z.1)), vR ((if ((lvS B).take j).any (fun p => p.1 == z.1) then some A.1 else sgO sg z.1).map (g.2 12))]) from cz1), if_pos (by simp)]
      rfl
    have w2 : KX [0, 9, 13] [] 0 g c1 g c2 := by rw [e2]; exact KX_ch1 (Ch_sup _) o9
    have cA : S1.1 (g.2 12 A.1) = c2.1 (g.2 12 A.1) := by
      rw [(KX_tr (KX_tr (KX_tr x2 y1) w1) w2).at1 a3 (by decide)]
    have g7 : gR c2 (some (g.2 12 A.1)) 7 0 = some (some (g.2 13 A.1)) := by rw [gR_e (cA.symm.trans hc)]; rfl
    have n13 : g.2 13 A.1 ≠ g.2 9 z.1 := fun z => by rw [z, o9] at a4; cases a4
    have l2 : isAL c2 (g.2 13 A.1) ((lvS A ++ (lvS B).take j).map fun p => some (g.2 9 p.1)) := y5.fr (by rw [e2, sup_ne _ _ n13, oc1 _ (Ne.symm (neo a4 (by decide)))])
    have k2 : alK c2 (g.2 13 A.1) = alK c (g.2 13 A.1) := alK_fr (by rw [e2, sup_ne _ _ n13, oc1 _ (Ne.symm (neo a4 (by decide)))])
    have hll : (lvS A ++ (lvS B).take j).length < 60 := by
      rw [List.length_append, List.length_take]; omega
    obtain ⟨c3, r1, r2, r3, r4, r5⟩ := al_addK l2 (x := some (g.2 9 z.1)) (okst_g (c := 5) (by rw [e2]; exact grc_o (sup_at _ _ _)) (by decide)) (by rw [List.length_map]; omega)
    rw [List.length_map] at r4
    have w3 : KX [0, 9, 13] [] (alK c3 (g.2 13 A.1) - alK c2 (g.2 13 A.1)) g c2 g c3 := KX_ch1 r5 a4
    have hlt : (b2i (decide (j < ((lvS B).map fun p => some (g.2 9 p.1)).length)) : Int32) = 1 := by
      rw [List.length_map, decide_eq_true hj]; rfl
    have htk : (lvS B).take (j + 1) = (lvS B).take j ++ [z] := by rw [List.take_succ, hz]; rfl
    have nB13 : g.2 13 B.1 ≠ g.2 9 z.1 := fun z => by rw [z, o9] at b4; cases b4
    refine ⟨c3, ⟨KX_n (KX_tr (KX_tr (KX_tr y1 w1) w2) w3) (by omega), by omega, by omega, ?_, ?_, fun a h1 h2 => ?_, fun k e hk => ?_⟩, ?_⟩
    · exact d2.it.fr (by rw [r5.1 _ (neo a4 (by decide)), e2, sup_ne _ _ (neo o9 (by decide))]) (by rw [r5.1 _ nAB, e2, sup_ne _ _ nB13])
    · rw [htk, ← List.append_assoc, List.map_append]; exact r2
    · rw [r5.1 a h2, e2, sup_ne _ _ (fun z => by rw [z, o9] at h1; cases h1), oc1 a (fun z => by rw [z, it0] at h1; cases h1)]
      exact y6 a h1 h2
    · have hk9 : g.1 (g.2 9 k) = (9, k) := (he.2.2 k e hk).2.2.1
      have nk : g.2 9 k ≠ g.2 13 A.1 := fun z => by rw [z, a4] at hk9; cases hk9
      rw [htk, List.any_append]
      by_cases ek : k = z.1
      · subst ek
        rw [hez] at hk
        cases hk
        rw [r5.1 _ nk, e2, sup_at]
        simp
      · have : ([z].any fun p => p.1 == k) = false := by simp [beq_false_of_ne (fun e => ek e.symm)]
        rw [this, Bool.or_false, r5.1 _ nk, e2, sup_ne _ _ (fun z => by rw [z, o9] at hk9; exact ek (congrArg (·.2) hk9).symm), oc1 _ (Ne.symm (neo hk9 (by decide)))]
        exact y7 k e hk
    · simp only [n_X1_join_b152, y4.cl, gd_t, ia_has y4, bn_s, hlt, i10, if_false, d1, gcst_g (grc_o cz1), p2, ob_s, g7, l2.cl, r1]
  · intro m c ⟨y1, y2, y3, y4, y5, y6, y7⟩
    rw [List.take_length] at y5 y7
    have hlt : (b2i (decide ((lvS B).length < ((lvS B).map fun p => some (g.2 9 p.1)).length)) : Int32) = 0 := by
      rw [decide_eq_false (by simp)]; rfl
    exact ⟨c, ⟨y1, y3, y5, y6, y7⟩, by simp only [n_X1_join_b152, y4.cl, gd_t, ia_has y4, bn_s, hlt, if_true]⟩
  · rw [List.take_zero]
    have h9 : g.1 (g.2 9 k) = (9, k) := (he.2.2 k e hk).2.2.1
    rw [i3.1 _ (Ne.symm (neo h9 (by decide))), hx.at1 h9 (by decide)]
    exact (he.2.2 k e hk).1
end
