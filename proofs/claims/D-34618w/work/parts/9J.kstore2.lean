/-! the keeper's work: store, whole -/
section
variable {S S' S1 S0 : St} {g g' : GA} {T U : List Nat} {n m c x y t i j d : Nat} {f f' : Fl} {rs : List RtV} {en : En} {o : Nat → Option Nat} {ac : List AcV} {sg : List SgV} {w w' : Int64} {nm : Nm} {s : Sg} {rk : Nat → Nat} {k p : Nat} {e : EnV} {q l : List Nat} {r : RtV} {D L id : Nat} {A B : SgV} {b : Nat}
theorem RKs_ad (h : RKs g sg S) (hid : ∀ x ∈ sg, x.1 ≠ id) : RKs (adS (adS g 12 id D) 13 id L) sg S := by
  obtain ⟨s1, s2, s3⟩ := h
  have g2 : ∀ t, t ≠ 12 → t ≠ 13 → (adS (adS g 12 id D) 13 id L).2 t = g.2 t := fun t h9 h10 => by rw [adS_o L h10, adS_o D h9]
  have g12 : ∀ j, j ≠ id → (adS (adS g 12 id D) 13 id L).2 12 j = g.2 12 j := fun j hj => by rw [adS_o L (by decide), adS_n 12 D hj]
  have g13 : ∀ j, j ≠ id → (adS (adS g 12 id D) 13 id L).2 13 j = g.2 13 j := fun j hj => by rw [adS_n 13 L hj, adS_o D (by decide)]
  refine ⟨?_, by rw [g2 24 (by decide) (by decide)]; exact s2, fun x hx => ?_⟩
  · rw [g2 24 (by decide) (by decide)]
    have e : (sg.map fun x => some ((adS (adS g 12 id D) 13 id L).2 12 x.1)) = sg.map fun x => some (g.2 12 x.1) := List.map_congr_left fun x hx => by rw [g12 x.1 (hid x hx)]
    rw [e]; exact s1
  · obtain ⟨u1, u2, u3, u4⟩ := s3 x hx
    rw [g12 x.1 (hid x hx), g13 x.1 (hid x hx), g2 9 (by decide) (by decide)]
    refine ⟨?_, u2, u3, u4⟩
    rw [u1]
    simp only [sgC, g13 x.1 (hid x hx)]
theorem RKe_ad (h : RKe g en o S) (hid : ∀ k, o k ≠ some id) : RKe (adS (adS g 12 id D) 13 id L) en o S := by
  obtain ⟨⟨hh, u1, u2⟩, u3, u4⟩ := h
  have g2 : ∀ t, t ≠ 12 → t ≠ 13 → (adS (adS g 12 id D) 13 id L).2 t = g.2 t := fun t h9 h10 => by rw [adS_o L h10, adS_o D h9]
  have g12 : ∀ j, j ≠ id → (adS (adS g 12 id D) 13 id L).2 12 j = g.2 12 j := fun j hj => by rw [adS_o L (by decide), adS_n 12 D hj]
  refine ⟨⟨hh, by rw [g2 22 (by decide) (by decide)]; exact u1, by rw [g2 9 (by decide) (by decide)]; exact u2⟩, by rw [g2 22 (by decide) (by decide)]; exact u3, fun k e hk => ?_⟩
  obtain ⟨c1, c2, c3, c4⟩ := u4 k e hk
  rw [g2 9 (by decide) (by decide), g2 10 (by decide) (by decide)]
  refine ⟨?_, c2, c3, c4⟩
  rw [c1]
  simp only [enC, g2 2 (by decide) (by decide), g2 10 (by decide) (by decide)]
  have : (o k).map ((adS (adS g 12 id D) 13 id L).2 12) = (o k).map (g.2 12) := by
    cases ho : o k with
    | none => rfl
    | some d => simp only [Option.map_some]; rw [g12 d (fun z => hid k (by rw [ho, z]))]
  rw [this]
theorem sgO_app (a b : List SgV) (k : Nat) : sgO (a ++ b) k = (sgO a k).or (sgO b k) := by
  unfold sgO
  rw [List.find?_append]
  cases a.find? fun x => x.2.any fun p => p.1 == k && !p.2 <;> simp
theorem kil_none (sg : List SgV) : kilS sg (pD en w 0) = sg := by
  have : (fun s : SgV => ((s.1, s.2.map fun p => (p.1, p.2 || pD en w 0 p.1)) : SgV)) = id := by
    funext x
    refine Prod.ext rfl ?_
    simp [pD, rdL]
  unfold kilS
  rw [this, List.map_id]
/-- segments after the new places -/
def sto2 (s : Sg) (id : Nat) : List SgV := if (rdL (zW s) (zE s) 60).isEmpty then kilS (zS s) (pD (zE s) (zW s) 60) else kilS (zS s) (pD (zE s) (zW s) 60) ++ [(id, (rdL (zW s) (zE s) 60).map fun k => (k, false))]
theorem stoS_e (s : Sg) (id : Nat) : stoS s id = if 3 < ((sto2 s id).filter hlv).length then joiS ((sto2 s id).filter hlv) else (sto2 s id).filter hlv := rfl
theorem sto2_LU (hU : LU (zS s)) (hid : ∀ x ∈ zS s, x.1 ≠ id) : LU (sto2 s id) := by
  unfold sto2
  have hK := LU_kil hU (pD (zE s) (zW s) 60)
  split
  · exact hK
  · refine ⟨?_, fun x hx y hy k h1 h2 => ?_⟩
    · rw [List.map_append, List.nodup_append]
      refine ⟨hK.1, by simp, fun a ha b hb e => ?_⟩
      simp at hb
      obtain ⟨z, hz, rfl⟩ := List.mem_map.mp ha
      obtain ⟨z0, hz0, rfl⟩ := List.mem_map.mp hz
      exact hid z0 hz0 (e.trans hb)
    · have dead : ∀ z ∈ kilS (zS s) (pD (zE s) (zW s) 60), (k, false) ∈ z.2 → k ∉ rdL (zW s) (zE s) 60 := fun z hz hk hr => by
        obtain ⟨z0, hz0, rfl⟩ := List.mem_map.mp hz
        have := (kil_live.mp hk).2
        unfold pD at this
        rw [List.any_eq_false] at this
        exact this k hr (by simp)
      have new : (k, false) ∈ (rdL (zW s) (zE s) 60).map (fun k => (k, false)) → k ∈ rdL (zW s) (zE s) 60 := fun h => by
        obtain ⟨k', hk', e⟩ := List.mem_map.mp h
        have : k' = k := congrArg (·.1) e
        rw [← this]; exact hk'
      rcases List.mem_append.mp hx with hx | hx
      · rcases List.mem_append.mp hy with hy | hy
        · exact hK.2 x hx y hy k h1 h2
        · simp at hy
          subst hy
          exact absurd (new h2) (dead x hx h1)
      · rcases List.mem_append.mp hy with hy | hy
        · simp at hx
          subst hx
          exact absurd (new h1) (dead y hy h2)
        · simp at hx hy
          rw [hx, hy]
theorem sto2_SS (hI : IW s rk) (h3 : (zS s).length ≤ 3) (id : Nat) : SS (zF s) (zE s) (sto2 s id) := by
  obtain ⟨A, h6, hT, hN, hB, hE, hF, hS, hF1, hE0, hW⟩ := hI
  have hK : ∀ g ∈ kilS (zS s) (pD (zE s) (zW s) 60), (g.2.map (·.1)).Nodup ∧ ∀ p ∈ g.2, p.1 < fMd (zF s) ∧ fFo (zF s) p.1 = false ∧ (p.2 = false → ((zE s) p.1).isSome = true) := fun g hg => by
    obtain ⟨g0, h0, rfl⟩ := List.mem_map.mp hg
    obtain ⟨s1, s2⟩ := hS.2 g0 h0
    refine ⟨by simpa [List.map_map, Function.comp_def] using s1, fun p hp => ?_⟩
    obtain ⟨p0, hp0, rfl⟩ := List.mem_map.mp hp
    obtain ⟨b1, b2, b3⟩ := s2 p0 hp0
    refine ⟨b1, b2, fun z => ?_⟩
    simp only [Bool.or_eq_false_iff] at z
    exact b3 z.1
  unfold sto2
  split
  · exact ⟨by simpa [kilS] using Nat.le_trans h3 (by omega), hK⟩
  · refine ⟨by simp [kilS]; omega, fun x hx => ?_⟩
    rcases List.mem_append.mp hx with hx | hx
    · exact hK x hx
    · simp at hx
      subst hx
      refine ⟨by simpa [List.map_map, Function.comp_def] using rdL_nd 60, fun p hp => ?_⟩
      obtain ⟨k, hk, rfl⟩ := List.mem_map.mp hp
      have h1 := rdL_lt 60 k hk
      have h2 : ((rdL (zW s) (zE s) 60).any fun j => j == k) = true := List.any_eq_true.mpr ⟨k, hk, by simp⟩
      rw [rdL_any, Bool.and_eq_true, Bool.and_eq_true] at h2
      have h4 := hW k h1.1 h2.2.1
      exact ⟨h4.1, h4.2, fun _ => h1.2⟩
theorem stoS_ok (hI : IW s rk) (hU : LU (zS s)) (h3 : (zS s).length ≤ 3) (hid : ∀ x ∈ zS s, x.1 ≠ id) : LU (stoS s id) ∧ SS (zF s) (zE s) (stoS s id) ∧ (stoS s id).length ≤ 3 := by
  have u1 := LU_fil (sto2_LU hU hid) hlv
  have u2 := SS_fil (sto2_SS hI h3 id) hlv
  rw [stoS_e]
  by_cases c : 3 < ((sto2 s id).filter hlv).length
  · rw [if_pos c]
    obtain ⟨sg, esg⟩ : ∃ sg, sg = (sto2 s id).filter hlv := ⟨_, rfl⟩
    rw [← esg] at u1 u2 c ⊢
    have hb := bstS_le sg (sg.length - 2)
    obtain ⟨A, hA⟩ : ∃ z, sg[bstS sg (sg.length - 2)]? = some z := ⟨_, List.getElem?_eq_getElem (by omega)⟩
    obtain ⟨B, hB⟩ : ∃ z, sg[bstS sg (sg.length - 2) + 1]? = some z := ⟨_, List.getElem?_eq_getElem (by omega)⟩
    have hjo : joiS sg = jnS sg (bstS sg (sg.length - 2)) A B := by
      unfold joiS
      rw [hA, hB]
      rfl
    rw [hjo]
    obtain ⟨v1, v2⟩ := SS_jn u1 u2 hA hB
    have := u2.1
    exact ⟨LU_jn u1 hA hB, v1, by omega⟩
  · rw [if_neg c]
    exact ⟨u1, u2, by omega⟩
theorem k_store (h : RK g s S) (hI : IW s rk) (hU : LU (zS s)) (hWB : WB (zW s)) (h3 : (zS s).length ≤ 3) (h40 : N40 g) (hid : ∀ x ∈ zS s, x.1 ≠ id) : ∃ S' g', n_X1_store S (some (g.2 1 0)) = some ((), S') ∧ KX TT UU 230 g S g' S' ∧ RK g' (stor s id) S' := by
  obtain ⟨AC', h6, hT, hN, hB, hE, hF, hS, hF1, hE0, hW⟩ := hI
  have hI : IW s rk := ⟨AC', h6, hT, hN, hB, hE, hF, hS, hF1, hE0, hW⟩
  have F := h.2.2.2.2.2.2.2.2.2.2
  obtain ⟨D, eD⟩ : ∃ D, D = S.2.1 := ⟨_, rfl⟩
  have hD0 : (g.1 D).1 = 0 := F D (by omega)
  obtain ⟨S2, e2⟩ : ∃ S2, S2 = spu S (cO 7 [vR none, vI 0]) 2 := ⟨_, rfl⟩
  have c2 : Ch D 1 S S2 := by rw [e2, eD]; exact Ch_spu _ (by omega) (by omega)
  have d2 : S2.1 D = some (cO 7 [vR none, vI 0]) := by rw [e2, eD]; exact spu_at _ _ _
  have l2 : D < S2.2.1 := by rw [e2, eD]; exact Nat.lt_succ_self _
  obtain ⟨L, eL⟩ : ∃ L, L = S2.2.1 := ⟨_, rfl⟩
  have hL0 : (g.1 L).1 = 0 := F L (by have := c2.2.1; omega)
  have nDL : D ≠ L := by omega
  obtain ⟨S3, i1, i2, i3, i4⟩ := al_init0 (S := spu S2 (cO 8 [vI 0, vR none, vI 0]) 3) (a := L) (by rw [eL]; exact spu_at _ _ _) rfl
  have c3 : Ch L 1 S2 S3 := by rw [eL] at i4 ⊢; exact Ch_n (Ch_tr (Ch_spu _ (c := 1) (by omega) (by omega)) i4) (by omega)
  have l3 : L < S3.2.1 := Nat.lt_of_lt_of_le (by rw [eL]; exact Nat.lt_succ_self _) i4.2.1
  have d3 : S3.1 D = some (cO 7 [vR none, vI 0]) := by rw [c3.1 _ nDL]; exact d2
  obtain ⟨S4, e4⟩ : ∃ S4, S4 = sup S3 D (cO 7 [vR (some L), vI 0]) := ⟨_, rfl⟩
  have p4 : pR S3 (some D) 7 0 (some L) = some S4 := by rw [e4, pR_e d3, if_pos (by simp)]; rfl
  have c4 : Ch D 0 S3 S4 := by rw [e4]; exact Ch_sup _
  have x4 : KX [0] [] 2 g S g S4 := KX_n (KX_tr (KX_tr (KX_ch c2 (by decide) (by rw [hD0]; decide)) (KX_ch c3 (by decide) (by rw [hL0]; decide))) (KX_ch c4 (by decide) (by rw [hD0]; decide))) (by omega)
  have d4 : S4.1 D = some (cO 7 [vR (some L), vI 0]) := by rw [e4]; exact sup_at _ _ _
  have la4 : isAL S4 L [] := i2.fr (c4.1 _ (Ne.symm nDL))
  have lk4 : alK S4 L = 0 := by rw [alK_fr (c4.1 _ (Ne.symm nDL)), i3]
  have l4 : L < S4.2.1 := Nat.lt_of_lt_of_le l3 c4.2.1
  have H4 := h.kx0 x4
  obtain ⟨h1, h2, h3', h4, h5, h6', h7, h8⟩ := H4
  -- addresses, owners
  obtain ⟨gA, egA⟩ : ∃ gA, gA = adS (adS g 12 id D) 13 id L := ⟨_, rfl⟩
  have gA1 : gA.1 = g.1 := by rw [egA]; rfl
  have gA2 : ∀ t, t ≠ 12 → t ≠ 13 → gA.2 t = g.2 t := fun t h9 h10 => by rw [egA, adS_o L h10, adS_o D h9]
  have gA12 : gA.2 12 id = D := by rw [egA, adS_o L (by decide), adS_s]
  have gA13 : gA.2 13 id = L := by rw [egA, adS_s]
  have xA : KX [0, 40] [12, 13] 0 g S4 gA S4 := by
    rw [egA]
    exact KX_n (KX_tr (KX_adS (by decide) (by decide) id D) (KX_adS (by decide) (by decide) id L)) (by omega)
  have sA : RKs gA (zS s) S4 := by rw [egA]; exact RKs_ad h6' hid
  have eA : RKe gA (zE s) (sgO (zS s)) S4 := by
    rw [egA]
    refine RKe_ad h4 fun k hk => ?_
    obtain ⟨x, hx, e, -⟩ := sgO_in hk
    exact hid x hx e
  obtain ⟨g1, eg1⟩ : ∃ g1, g1 = newO (newO gA D 40 0) L 40 1 := ⟨_, rfl⟩
  have hDA : (gA.1 D).1 = 0 := by rw [gA1]; exact hD0
  have hLA : (gA.1 L).1 = 0 := by rw [gA1]; exact hL0
  have y1 : KX [0, 40] [] 0 gA S4 (newO gA D 40 0) S4 := KX_own hDA 40 0 (by decide)
  have y2 : KX [0, 40] [] 0 (newO gA D 40 0) S4 g1 S4 := by
    rw [eg1]; exact KX_own (by rw [newO_1, if_neg (Ne.symm nDL)]; exact hLA) 40 1 (by decide)
  have yA : KX [0, 40] [] 0 gA S4 g1 S4 := KX_n (KX_tr y1 y2) (by omega)
  have g12 : g1.2 = gA.2 := by rw [eg1]; rfl
  have g1D : g1.1 D = (40, 0) := by rw [eg1, newO_1, if_neg nDL]; exact if_pos rfl
  have g1L : g1.1 L = (40, 1) := by rw [eg1, newO_1, if_pos rfl]
  have F4 : FR g S4 := FR_sm F x4.le
  have FA : FR gA S4 := fun b hb => by rw [gA1]; exact F4 b hb
  have F1 : FR g1 S4 := by
    rw [eg1]
    exact FR_own (FR_own FA (by omega) _ _) l4 _ _
  have P0 : PLI g1 S4 (zE s) (zW s) (zS s) id D L 0 S4 := by
    refine ⟨KX_n (KX_rf (by decide)) (Nat.zero_le _), by rw [lk4]; exact Nat.zero_le _, la4, d4, ?_, ?_⟩
    · rw [kil_none]; exact sA.kx yA
    · have : pO (zE s) (zW s) id (zS s) 0 = sgO (zS s) := by funext k; simp [pO, rdL]
      rw [this]; exact eA.kx yA
  have n1 : RKn g1 (zN s) S4 := (h1.kx xA).kx yA
  have w1 : RKw g1 (zW s) S4 := (h7.kx xA).kx yA
  obtain ⟨S5, m', z1, z2⟩ := k_placing (f := zF s) n1 w1 hU hS hE h6 hWB g1D g1L (by rw [g12]; exact gA12) 64 0 FU S4 (by omega) (by simp only [FU]; omega) P0
  have er : rdL (zW s) (zE s) 64 = rdL (zW s) (zE s) 60 := rdL_ext (fun k hk => by
    cases he : zE s k with
    | none => rfl
    | some e => have := (hE k e he).1; omega) (by omega)
  obtain ⟨x5, k5, la5, d5, s5, e5⟩ := z2
  have epD : pD (zE s) (zW s) 64 = pD (zE s) (zW s) 60 := by unfold pD; rw [er]
  rw [er] at k5 la5
  rw [epD] at s5
  obtain ⟨l, el⟩ : ∃ l, l = rdL (zW s) (zE s) 60 := ⟨_, rfl⟩
  rw [← el] at k5 la5
  have ll : l.length ≤ 60 := by rw [el]; exact rdL_len 60
  -- the bits are cleared
  have w5 : S5.1 (g1.2 25 0) = some (cBS (zW s)) := (x5.at1 w1.2 (by decide)).trans w1.1
  obtain ⟨S6, e6⟩ : ∃ S6, S6 = sup S5 (g1.2 25 0) (cBS 0) := ⟨_, rfl⟩
  have c6 : Ch (g1.2 25 0) 0 S5 S6 := by rw [e6]; exact Ch_sup _
  have p6 : h_J5_clear S5 (some (g1.2 25 0)) = some ((), S6) := by rw [e6]; exact bs_clear w5
  have x6 : KX [0, 25] [] 0 g1 S5 g1 S6 := KX_ch1 c6 w1.2
  have n25 : ∀ {z u v}, g1.1 z = (u, v) → u ≠ 25 → z ≠ g1.2 25 0 := fun {z u v} hz hu e => by
    rw [e, w1.2] at hz; exact hu (congrArg (·.1) hz).symm
  have d6 : S6.1 D = some (cO 7 [vR (some L), vI 0]) := by rw [c6.1 _ (n25 g1D (by decide))]; exact d5
  have la6 : isAL S6 L (l.map fun k => some (g1.2 9 k)) := la5.fr (c6.1 _ (n25 g1L (by decide)))
  -- owners for good
  obtain ⟨g2, eg2⟩ : ∃ g2, g2 = newO (newO (un40 g1) D 12 id) L 13 id := ⟨_, rfl⟩
  have u1D : ((un40 g1).1 D).1 = 0 := by
    show (if (g1.1 D).1 = 40 then ((0, 0) : Nat × Nat) else g1.1 D).1 = 0
    rw [g1D]; rfl
  have u1L : ((un40 g1).1 L).1 = 0 := by
    show (if (g1.1 L).1 = 40 then ((0, 0) : Nat × Nat) else g1.1 L).1 = 0
    rw [g1L]; rfl
  have v1 : KX [0] [] 0 (un40 g1) S6 (newO (un40 g1) D 12 id) S6 := KX_own u1D 12 id (by decide)
  have v2 : KX [0] [] 0 (newO (un40 g1) D 12 id) S6 g2 S6 := by
    rw [eg2]; exact KX_own (by rw [newO_1, if_neg (Ne.symm nDL)]; exact u1L) 13 id (by decide)
  have v : KX [0] [] 0 (un40 g1) S6 g2 S6 := KX_n (KX_tr v1 v2) (by omega)
  have g22 : g2.2 = gA.2 := by rw [eg2, ← g12]; rfl
  have g2D : g2.1 D = (12, id) := by rw [eg2, newO_1, if_neg nDL]; exact if_pos rfl
  have g2L : g2.1 L = (13, id) := by rw [eg2, newO_1, if_pos rfl]
  have xx : KX [40, 0, 9, 12, 13, 25] [12, 13] (2 + alK S5 L) g S g1 S6 := KX_n (KX_tr (KX_tr (KX_tr (KX_tr (KX_up x4 (by decide) (by decide) (Nat.le_refl _)) (KX_up xA (by decide) (by decide) (Nat.le_refl _))) (KX_up yA (by decide) (by decide) (Nat.le_refl _))) (KX_up x5 (by decide) (by decide) (Nat.le_refl _))) (KX_up x6 (by decide) (by decide) (Nat.le_refl _))) (by omega)
  have X6 : KX [0, 9, 12, 13, 25] [12, 13] (2 + alK S5 L) g S g2 S6 := KX_n (KX_tr (KX_un h40 (KX_r40 h40 xx)) (KX_up v (by decide) (by decide) (Nat.le_refl _))) (by omega)
  have F6 : FR g2 S6 := by
    have l6 : S4.2.1 ≤ S6.2.1 := Nat.le_trans x5.le x6.le
    rw [eg2]
    exact FR_own (FR_own (fun b hb => un_k (F1 b (by omega))) (by omega) _ _) (by omega) _ _
  obtain ⟨o1, o2, o3, o4, o5, o6, o7, o8⟩ := h
  have ss6 : RKs g2 (kilS (zS s) (pD (zE s) (zW s) 60)) S6 := (RKs_un (s5.kx x6)).kx v
  have ee6 : RKe g2 (zE s) (pO (zE s) (zW s) id (zS s) 64) S6 := (RKe_un (e5.kx x6)).kx v
  have ww6 : RKw g2 0 S6 := by
    refine ⟨?_, ?_⟩
    · rw [g22, ← g12, e6]; exact sup_at _ _ _
    · rw [g22, ← g12]; exact v.own1 (un_at w1.2) (by decide)
  have hpO : ∀ k, pO (zE s) (zW s) id (zS s) 64 k = sgO (sto2 s id) k := fun k => by
    unfold pO sto2
    rw [er, ← el]
    cases hl : l with
    | nil =>
      have e0 : pD (zE s) (zW s) 60 = fun _ => false := by unfold pD; rw [← el, hl]; rfl
      simp only [List.any_nil, Bool.false_eq_true, if_false, List.isEmpty_nil, if_true]
      rw [sgO_kil, e0]; rfl
    | cons z l' =>
      simp only [List.isEmpty_cons, Bool.false_eq_true, if_false]
      rw [sgO_app, sgO_kil]
      have e0 : pD (zE s) (zW s) 60 k = (z :: l').any fun j => j == k := by unfold pD; rw [← el, hl]
      rw [e0]
      have e1 : sgO [((id, (z :: l').map fun k => (k, false)) : SgV)] k = if (z :: l').any (fun j => j == k) then some id else none := by
        unfold sgO
        have : (((z :: l').map fun k => (k, false)).any fun p => p.1 == k && !p.2) = (z :: l').any fun j => j == k := by
          rw [List.any_map]
          congr 1
          funext j
          simp
        rw [List.find?_cons, this]
        cases (z :: l').any fun j => j == k <;> rfl
      rw [e1]
      cases (z :: l').any (fun j => j == k) with
      | true => rfl
      | false => cases sgO (zS s) k <;> rfl
  have hpO' : pO (zE s) (zW s) id (zS s) 64 = sgO (sto2 s id) := funext hpO
  -- the new segment
  have mid : ∃ S7, (bn (h_J2_isEmpty S6 (some L)) fun v6 S5 => if v6 = 0 then (gR S5 (some (g.2 1 0)) 0 4).bind fun v7 => gd (grc S5 v7 8) <| bn (h_J2_add S5 v7 (some D)) fun v9 S8 => n_X1_store_b109 S8 (some (g.2 1 0)) else n_X1_store_b109 S5 (some (g.2 1 0))) = n_X1_store_b109 S7 (some (g.2 1 0)) ∧ KX [0, 24] [] 2 g2 S6 g2 S7 ∧ RKs g2 (sto2 s id) S7 := by
    cases hl : l with
    | nil =>
      have es : sto2 s id = kilS (zS s) (pD (zE s) (zW s) 60) := by unfold sto2; rw [← el, hl]; rfl
      refine ⟨S6, ?_, KX_n (KX_rf (by decide)) (Nat.zero_le _), by rw [es]; exact ss6⟩
      rw [al_isEmpty la6, bn_s, hl]
      simp
    | cons z l' =>
      have es : sto2 s id = kilS (zS s) (pD (zE s) (zW s) 60) ++ [(id, l.map fun k => (k, false))] := by
        unfold sto2
        rw [← el, hl]
        rfl
      obtain ⟨q1, q2, q3⟩ := ss6
      obtain ⟨S7, r1, r2, r3⟩ := al_add (c := 2) q1 (x := some D) (okst_g (grc_o d6) (by decide)) (by simp [kilS]; omega) (by omega) (by simp [kilS]; omega)
      have n6 : gR S6 (some (g.2 1 0)) 0 4 = some (some (g2.2 24 0)) := by
        have := kn_4 (o1.kx X6)
        rw [show g2.2 1 0 = g.2 1 0 by rw [X6.ad (by decide)]] at this
        exact this
      have n24 : ∀ {z u v}, g2.1 z = (u, v) → u ≠ 24 → z ≠ g2.2 24 0 := fun {z u v} hz hu e => by
        rw [e, q2] at hz; exact hu (congrArg (·.1) hz).symm
      refine ⟨S7, ?_, KX_ch1 r3 q2, ?_⟩
      · rw [al_isEmpty la6, bn_s, hl]
        simp only [List.length_map, List.length_cons, Nat.succ_ne_zero, if_false, if_true, n6, ob_s, q1.cl, gd_t, r1, bn_s]
      · rw [es]
        refine ⟨?_, q2, fun x hx => ?_⟩
        · rw [List.map_append]
          simp only [List.map_cons, List.map_nil]
          rw [show g2.2 12 id = D by rw [g22]; exact gA12]
          exact r2
        · rcases List.mem_append.mp hx with hx | hx
          · obtain ⟨t1, t2, t3, t4⟩ := q3 x hx
            exact ⟨by rw [r3.1 _ (n24 t3 (by decide))]; exact t1, t2.fr (r3.1 _ (n24 t4 (by decide))), t3, t4⟩
          · simp at hx
            subst hx
            have e12 : g2.2 12 id = D := by rw [g22]; exact gA12
            have e13 : g2.2 13 id = L := by rw [g22]; exact gA13
            refine ⟨?_, ?_, by rw [e12]; exact g2D, by rw [e13]; exact g2L⟩
            · rw [e12, r3.1 _ (n24 g2D (by decide)), d6]
              simp only [sgC, e13]
              have : (l.map fun k => (k, false)).countP (fun p => p.2) = 0 := by
                rw [List.countP_eq_zero]
                intro p hp
                obtain ⟨k, -, rfl⟩ := List.mem_map.mp hp
                simp
              rw [this, nI_0]
            · rw [e13]
              have e1 : (lvS ((id, l.map fun k => (k, false)) : SgV)).map (fun p => some (g2.2 9 p.1)) = l.map fun k => some (g1.2 9 k) := by
                have : lvS ((id, l.map fun k => (k, false)) : SgV) = l.map fun k => (k, false) := by
                  unfold lvS
                  rw [List.filter_eq_self]
                  intro p hp
                  obtain ⟨k, -, rfl⟩ := List.mem_map.mp hp
                  rfl
                rw [this, List.map_map, g22, ← g12]
                rfl
              rw [e1]
              exact la6.fr (r3.1 _ (n24 g2L (by decide)))
  obtain ⟨S7, m1, m2, m3⟩ := mid
  have X7 : KX [0, 9, 12, 13, 24, 25] [12, 13] (4 + alK S5 L) g S g2 S7 := KX_n (KX_tr (KX_up X6 (by decide) (by decide) (Nat.le_refl _)) (KX_up m2 (by decide) (by decide) (Nat.le_refl _))) (by omega)
  have R7 : RK g2 (wW (wS s (sto2 s id)) 0) S7 := by
    refine ⟨o1.kx X7, o2.kx X7, o3.kx X7, ?_, o5.kx X7, m3, ww6.kx m2, o8.kx X7 (FR_sm F6 m2.le)⟩
    show RKe g2 (zE s) (sgO (sto2 s id)) S7
    rw [← hpO']
    exact ee6.kx m2
  have hU2 := sto2_LU hU hid
  have hS2 := sto2_SS hI h3 id
  obtain ⟨S8, t1, t2, t3⟩ := k_gone R7 hS2.1
  have a10 : g2.2 1 0 = g.2 1 0 := by rw [X7.ad (by decide)]
  rw [a10] at t1
  have start : n_X1_store S (some (g.2 1 0)) = n_X1_store_b157 FU S8 (some (g.2 1 0)) := by
    have b10 : g1.2 1 0 = g.2 1 0 := by rw [g12, gA2 1 (by decide) (by decide)]
    rw [b10] at z1
    have w4 : S4.1 (g.2 25 0) = some (cBS (zW s)) := h7.1
    have b25 : g1.2 25 0 = g.2 25 0 := by rw [g12, gA2 25 (by decide) (by decide)]
    have n5 : gR S5 (some (g.2 1 0)) 0 5 = some (some (g.2 25 0)) := by
      have := kn_5 (n1.kx x5)
      rw [b10, b25] at this; exact this
    rw [b25] at p6 w5
    have g7 : gR S6 (some D) 7 0 = some (some L) := by rw [gR_e d6]; rfl
    have hneg : ((-1 : Int32) < 0) := by decide
    simp only [n_X1_store, nwB_e, ← eD, ← e2, Option.isSome_some, gd_t, n_X9_init, ← eL, i1, bn_s, p4, ob_s, kn_5 h1, isBS_cl w4]
    rw [show h_J5_nextSetBit S4 (some (g.2 25 0)) 0 = some (nsb (zW s) (64 - 0) 0, S4) by rw [li_0, bs_next w4 (by omega)], bn_s, z1]
    simp only [n_X1_store_b17, hneg, if_true, n5, ob_s, isBS_cl w5, gd_t, p6, bn_s, g7, la6.cl]
    exact m1.trans t1
  obtain ⟨q0, hq0⟩ : ∃ q, FU = q + 1 + 1 := ⟨99998, rfl⟩
  have hal : alK S5 L ≤ 130 := by omega
  have X8 : KX [0, 9, 12, 13, 24, 25] [12, 13] 135 g S g2 S8 := KX_n (KX_tr X7 (KX_up t2 (by decide) (by decide) (Nat.le_refl _))) (by omega)
  rw [start, hq0]
  have n8 := kn_4 t3.1
  rw [a10] at n8
  have s8 := t3.2.2.2.2.2.1.1
  have sz8 : h_J2_size S8 (some (g2.2 24 0)) = some (nI ((sto2 s id).filter hlv).length, S8) := by rw [al_size s8, List.length_map]
  have hlen := List.length_filter_le hlv (sto2 s id)
  have h4l := hS2.1
  have hcmp : (nI ((sto2 s id).filter hlv).length ≤ (3 : Int32)) = (((sto2 s id).filter hlv).length ≤ 3) := by
    rw [li_3, nI_leE (by omega) (by decide)]
  by_cases c : ((sto2 s id).filter hlv).length ≤ 3
  · have es : stor s id = wS (wW (wS s (sto2 s id)) 0) ((sto2 s id).filter hlv) := by
      unfold stor
      rw [stoS_e, if_neg (by omega)]
    refine ⟨S8, g2, ?_, KX_all X8 (by omega), by rw [es]; exact t3⟩
    simp only [n_X1_store_b157, n8, ob_s, s8.cl, gd_t, sz8, bn_s, hcmp, c, if_true]
  · have es : stor s id = wS (wW (wS s (sto2 s id)) 0) (joiS ((sto2 s id).filter hlv)) := by
      unfold stor
      rw [stoS_e, if_pos (by omega)]
    obtain ⟨S9, j1, j2, j3, A, B, jA, jB, jo⟩ := k_join t3 (LU_fil hU2 hlv) (SS_fil hS2 hlv) h6 (by show 2 ≤ ((sto2 s id).filter hlv).length; omega)
    rw [a10] at j1
    have hjl := (SS_jn (LU_fil hU2 hlv) (SS_fil hS2 hlv) jA jB).2
    have n9 := kn_4 j3.1
    rw [a10] at n9
    have s9 := j3.2.2.2.2.2.1.1
    have s9 : isAL S9 (g2.2 24 0) ((joiS ((sto2 s id).filter hlv)).map fun x => some (g2.2 12 x.1)) := s9
    have jo : joiS ((sto2 s id).filter hlv) = jnS ((sto2 s id).filter hlv) (bstS ((sto2 s id).filter hlv) (((sto2 s id).filter hlv).length - 2)) A B := jo
    have hl9 : (joiS ((sto2 s id).filter hlv)).length ≤ 3 := by
      rw [jo]
      have hjl : (jnS ((sto2 s id).filter hlv) (bstS ((sto2 s id).filter hlv) (((sto2 s id).filter hlv).length - 2)) A B).length + 1 = ((sto2 s id).filter hlv).length := hjl
      omega
    have sz9 : h_J2_size S9 (some (g2.2 24 0)) = some (nI (joiS ((sto2 s id).filter hlv)).length, S9) := by rw [al_size s9, List.length_map]
    have hcmp9 : (nI (joiS ((sto2 s id).filter hlv)).length ≤ (3 : Int32)) = True := by
      rw [li_3, nI_leE (by omega) (by decide)]; exact eq_true hl9
    have cl8 := t3.1.cl
    rw [a10] at cl8
    refine ⟨S9, g2, ?_, KX_all (KX_tr (KX_up X8 (by decide) (by decide) (Nat.le_refl _)) (KX_up j2 (by decide) (by decide) (Nat.le_refl _)) : KX [0, 9, 12, 13, 24, 25] [12, 13] (135 + 92) g S g2 S9) (by omega), by rw [es]; exact j3⟩
    simp only [n_X1_store_b157, n8, ob_s, s8.cl, gd_t, sz8, bn_s, hcmp, c, if_false, cl8, j1, n9, s9.cl, sz9, hcmp9, if_true]
end
