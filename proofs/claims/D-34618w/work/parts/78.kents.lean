/-! the keeper's entries; looks at all; simple calls -/
section
variable {S S' S1 : St} {g g' : GA} {T U : List Nat} {n m a b c x y t i : Nat} {f f' : Fl} {rs : List RtV} {en : En} {o : Nat → Option Nat} {ac : List AcV} {sg : List SgV} {w : Int64} {nm : Nm} {s : Sg} {rk : Nat → Nat} {k p : Nat} {e : EnV}
theorem en_get (h : RKe g en o S) (hk : k < 60) : aR S (some (g.2 22 0)) 5 (nI k) = some (if (en k).isSome then some (g.2 9 k) else none) := by
  obtain ⟨⟨hh, h1, h2⟩, -⟩ := h
  have hk3 : k < 2 ^ 31 := by omega
  simp only [aR, aV, garr, gcell_e h1, if_true, Option.bind_some, nI_lt0 hk3, nI_clamp hk3, false_or]
  rw [if_neg (by omega), Option.bind_some, h2 k hk]
  rfl
theorem RKe.cl (h : RKe g en o S) (he : en k = some e) : grc S (some (g.2 9 k)) 5 = true := grc_o (h.2.2 k e he).1
theorem en_0 (h : RKe g en o S) (he : en k = some e) : gR S (some (g.2 9 k)) 5 0 = some (some (g.2 2 k)) := by rw [gR_e (h.2.2 k e he).1]; rfl
theorem en_1 (h : RKe g en o S) (he : en k = some e) : gR S (some (g.2 9 k)) 5 1 = some (some (g.2 2 e.1)) := by rw [gR_e (h.2.2 k e he).1]; rfl
theorem en_2 (h : RKe g en o S) (he : en k = some e) : gI S (some (g.2 9 k)) 5 2 = some e.2.1 := by rw [gI_e (h.2.2 k e he).1]; rfl
theorem en_3 (h : RKe g en o S) (he : en k = some e) : gI S (some (g.2 9 k)) 5 3 = some (nI e.2.2.1) := by rw [gI_e (h.2.2 k e he).1]; rfl
theorem en_4 (h : RKe g en o S) (he : en k = some e) : gR S (some (g.2 9 k)) 5 4 = some (some (g.2 10 k)) := by rw [gR_e (h.2.2 k e he).1]; rfl
theorem en_5 (h : RKe g en o S) (he : en k = some e) : gR S (some (g.2 9 k)) 5 5 = some ((o k).map (g.2 12)) := by rw [gR_e (h.2.2 k e he).1]; rfl
theorem adA_ge (ac : List AcV) (n : Nat) (d : Bool) : ac.length ≤ (adA ac n d).length := by
  unfold adA; split <;> simp
theorem lkA_ge (en : En) (ac : List AcV) : ∀ k, ac.length ≤ (lkA en ac k).length := by
  intro k
  induction k with
  | zero => exact Nat.le_refl _
  | succ k ih =>
    simp only [lkA]
    split
    · exact Nat.le_trans ih (adA_ge _ _ _)
    · exact ih
theorem lkA_AB' (hB : AB f ac) (hE : ES f en) : ∀ k, AB f (lkA en ac k) := by
  intro k
  induction k with
  | zero => exact hB
  | succ k ih =>
    simp only [lkA]
    split
    · next hc =>
      cases hek : en k with
      | none => rw [hek] at hc; simp at hc
      | some e => exact adA_AB ih (hE k e hek).1
    · exact ih
theorem k_lookAtAll (hn : RKn g nm S) (hf : RKf g f S) (he : RKe g en o S) (h : RKa g ac S) (hF : FR g S) (hB : AB f ac) (hE : ES f en) (h6 : fMd f ≤ 60) : ∃ S' g', n_X1_lookAtAll S (some (g.2 1 0)) = some ((), S') ∧ KX [0, 11, 23] [11] (cnB (fun k => (en k).isSome) 60 + 2 * ((lkA en ac 60).length - ac.length)) g S g' S' ∧ RKa g' (lkA en ac 60) S' ∧ FR g' S' := by
  have key := lp_ex (fun m k (c : St × GA) => n_X1_lookAtAll_b2 m c.1 (some (g.2 1 0)) (nI k)) (fun k c => KX [0, 11, 23] [11] (cnB (fun k => (en k).isSome) k + 2 * ((lkA en ac k).length - ac.length)) g S c.2 c.1 ∧ RKa c.2 (lkA en ac k) c.1 ∧ FR c.2 c.1) (fun b => ∃ S' g', b = ((), S') ∧ KX [0, 11, 23] [11] (cnB (fun k => (en k).isSome) 60 + 2 * ((lkA en ac 60).length - ac.length)) g S g' S' ∧ RKa g' (lkA en ac 60) S' ∧ FR g' S') 60 ?_ ?_ FU 0 (S, g) (by omega) (by simp only [FU]; omega) ⟨KX_n (KX_rf (by decide)) (Nat.zero_le _), h, hF⟩
  · obtain ⟨b, k1, S', g', rfl, k2⟩ := key
    rw [nI_0] at k1
    exact ⟨S', g', k1, k2⟩
  · intro m k ⟨S1, g1⟩ hk ⟨x1, ra1, F1⟩
    refine Or.inl ?_
    have n1 := hn.kx x1
    have f1 := hf.kx x1
    have e1 := he.kx x1
    have a10 : g1.2 1 0 = g.2 1 0 := by rw [x1.ad (by decide)]
    have q2 := kn_2 n1
    have qcl := n1.cl
    rw [a10] at q2 qcl
    have hAB := lkA_AB' hB hE k
    simp only [n_X1_lookAtAll_b2, n_X1_lookAtAll_b31, li_60, nI_leE (show 60 < 2 ^ 31 by decide) (show k < 2 ^ 31 by omega), q2, ob_s, en_get e1 hk, nI_1]
    rw [if_neg (by omega)]
    cases hek : en k with
    | none =>
      refine ⟨(S1, g1), ⟨?_, ?_, F1⟩, by simp⟩
      · simpa [cnB, lkA, hek] using x1
      · simpa [lkA, hek] using ra1
    | some ev =>
      obtain ⟨hkm, -⟩ := hE k ev hek
      obtain ⟨S2, g2, b1, b2, b3, b4⟩ := k_add n1 f1 ra1 F1 hAB h6 hkm false
      rw [a10] at b1
      have e0 := en_0 e1 hek
      refine ⟨(S2, g2), ⟨?_, ?_, b4⟩, ?_⟩
      · have := lkA_ge en ac k
        have := adA_ge (lkA en ac k) k false
        refine KX_n (KX_tr x1 b2) ?_
        simp only [cnB, lkA, hek, Option.isSome_some, if_true]
        omega
      · simpa [lkA, hek] using b3
      · simp only [Option.isSome_some, if_true, reduceCtorEq, if_false, e0, ob_s, qcl, gd_t]
        rw [show n_X1_add S1 (some (g.2 1 0)) (some (g1.2 2 k)) 0 = some ((), S2) from b1, bn_s]
  · intro m ⟨S1, g1⟩ ⟨x1, ra1, F1⟩
    refine ⟨_, ?_, S1, g1, rfl, x1, ra1, F1⟩
    simp only [n_X1_lookAtAll_b2, li_60, Int32.le_refl, if_true]
theorem k_entries (h : RK g s S) : KI 10 g S (n_X1_entries S (some (g.2 1 0))) (opEntries s) := by
  refine ⟨S, g, ?_, KX_n (KX_rf (by decide)) (by decide), h⟩
  obtain ⟨h1, -, -, h4, -⟩ := h
  unfold n_X1_entries
  have key := lp_u0 (fun m k => n_X1_entries_b4 m S (some (g.2 1 0)) (nI (cnB (fun k => (zE s k).isSome) k)) (nI k)) 60 (some (nI (cnB (fun k => (zE s k).isSome) 60), S)) ?_ ?_ (m := FU) (by simp only [FU]; omega)
  · simp only [cnB, nI_0] at key ⊢
    exact key
  · intro m k hk
    simp only [n_X1_entries_b4, n_X1_entries_b25, li_60, nI_leE (show 60 < 2 ^ 31 by decide) (show k < 2 ^ 31 by omega), kn_2 h1, ob_s, en_get h4 hk, nI_1, cnB]
    rw [if_neg (by omega)]
    rcases Bool.eq_false_or_eq_true (zE s k).isSome with b | b <;> simp [b]
  · intro m
    simp only [n_X1_entries_b4, li_60, Int32.le_refl, if_true, rt_i, id]
theorem k_edition (h : RK g s S) (h6 : fMd (zF s) ≤ 60) (x : Int32) : KO [IOE] 10 g S (n_X1_edition S (some (g.2 1 0)) x) (opEdition s x) := by
  have hh := h
  obtain ⟨h1, h2, -, h4, -⟩ := h
  simp only [n_X1_edition, n_X1_checkMade, h1.cl, gd_t, kn_0 h1, ob_s, h2.1.cl, ndl_size h2, bn_s, k_isIn, opEdition]
  rcases inI_cases h6 x with ⟨k, hk, rfl, hi⟩ | ⟨hi, hno⟩
  · rw [hi]
    have hk3 : k < 2 ^ 31 := by omega
    simp only [b2i_t, k_need1, tbn_s, kn_2 h1, ob_s, en_get h4 (show k < 60 by omega), Bool.true_eq_false, if_false, nI_clamp hk3]
    cases hek : zE s k with
    | none =>
      simp only [Option.isSome_none, Bool.false_eq_true, if_false, if_true, rt_i]
      exact KO_s (KX_n (KX_rf (by decide)) (by decide)) hh
    | some ev =>
      simp only [Option.isSome_some, if_true, reduceCtorEq, if_false, en_3 h4 hek, ob_s, rt_i]
      exact KO_s (KX_n (KX_rf (by decide)) (by decide)) hh
  · rw [hi]
    simp only [b2i_f, k_need0, tbn_x, if_true]
    exact KO_x (j := 0) rfl hh 0 (by decide) (by decide)
theorem k_actsO (h : RK g s S) : KI 10 g S (n_X1_acts S (some (g.2 1 0))) (opActs s) := by
  refine ⟨S, g, ?_, KX_n (KX_rf (by decide)) (by decide), h⟩
  obtain ⟨h1, -, -, -, h5, -⟩ := h
  simp only [n_X1_acts, kn_3 h1, ob_s, h5.1.cl, gd_t, ll_size h5.1, bn_s, List.length_map, rt_i, id, opActs]
theorem k_segments (h : RK g s S) : KI 10 g S (n_X1_segments S (some (g.2 1 0))) (opSegments s) := by
  refine ⟨S, g, ?_, KX_n (KX_rf (by decide)) (by decide), h⟩
  obtain ⟨h1, -, -, -, -, h6, -⟩ := h
  simp only [n_X1_segments, kn_4 h1, ob_s, h6.1.cl, gd_t, al_size h6.1, bn_s, List.length_map, rt_i, id, opSegments]
theorem RK_num (h : RK g s S) (v : Nm) (e : S1 = sup S (g.2 1 0) (cO 0 [vR (some (g.2 20 0)), vR (some (g.2 21 0)), vR (some (g.2 22 0)), vR (some (g.2 23 0)), vR (some (g.2 24 0)), vR (some (g.2 25 0)), vI v.1, vI (b2i v.2.1), vI v.2.2.1, vI v.2.2.2.1, vI v.2.2.2.2.1, vI v.2.2.2.2.2])) : RK g (wN s v) S1 ∧ KX [0, 1] [] 0 g S g S1 := by
  obtain ⟨h1, h2, h3, h4, h5, h6, h7, h8⟩ := h
  have y1 : KX [0, 1] [] 0 g S g S1 := by rw [e]; exact KX_ch1 (Ch_sup _) h1.2
  exact ⟨⟨⟨by rw [e]; exact sup_at _ _ _, h1.2⟩, h2.kx y1, h3.kx y1, h4.kx y1, h5.kx y1, h6.kx y1, h7.kx y1, h8.kx y1 (FR_sm h8.2.2.2 y1.le)⟩, y1⟩
theorem k_pass (h : RK g s S) (x : Int32) : KO [IAE, ISE] 10 g S (n_X1_pass S (some (g.2 1 0)) x) (opPass s x) := by
  have hh := h
  obtain ⟨h1, -⟩ := h
  simp only [n_X1_pass, k_isIn, bn_s, opPass]
  rcases Bool.eq_false_or_eq_true (inI x 1 1000) with b1 | b1
  · simp only [b1, b2i_t, k_check1, tbn_s, kn_6 h1, ob_s, Bool.true_eq_false, if_false]
    by_cases c1 : (100000 : Int32) < (zN s).1 + x
    · rw [if_pos c1, if_pos c1]
      simp only [n_X1_pass_b28, k_poss0, tbn_x]
      exact KO_x (j := 1) rfl hh 0 (by decide) (by decide)
    · rw [if_neg c1, if_neg c1]
      obtain ⟨S1, e1⟩ : ∃ S1, S1 = sup S (g.2 1 0) (cO 0 [vR (some (g.2 20 0)), vR (some (g.2 21 0)), vR (some (g.2 22 0)), vR (some (g.2 23 0)), vR (some (g.2 24 0)), vR (some (g.2 25 0)), vI (nwMi (zN s) ((zN s).1 + x)).1, vI (b2i (nwMi (zN s) ((zN s).1 + x)).2.1), vI (nwMi (zN s) ((zN s).1 + x)).2.2.1, vI (nwMi (zN s) ((zN s).1 + x)).2.2.2.1, vI (nwMi (zN s) ((zN s).1 + x)).2.2.2.2.1, vI (nwMi (zN s) ((zN s).1 + x)).2.2.2.2.2]) := ⟨_, rfl⟩
      have p1 : pI .int S (some (g.2 1 0)) 0 6 ((zN s).1 + x) = some S1 := by
        rw [e1, pI_e h1.1, if_pos (by simp)]; rfl
      obtain ⟨r1, r2⟩ := RK_num hh _ e1
      have q6 := kn_6 r1.1
      simp only [n_X1_pass_b28, k_poss1, tbn_s, kn_6 h1, ob_s, p1, q6, rt_i]
      exact KO_s (KX_all r2 (by decide)) r1
  · simp only [b1, b2i_f, k_check0, tbn_x, if_true]
    exact KO_x (j := 0) rfl hh 0 (by decide) (by decide)
theorem k_battery (h : RK g s S) (b : Bool) : KI 10 g S (n_X1_battery S (some (g.2 1 0)) (b2i b)) (opBattery s b) := by
  have hh := h
  obtain ⟨h1, -⟩ := h
  obtain ⟨S1, e1⟩ : ∃ S1, S1 = sup S (g.2 1 0) (cO 0 [vR (some (g.2 20 0)), vR (some (g.2 21 0)), vR (some (g.2 22 0)), vR (some (g.2 23 0)), vR (some (g.2 24 0)), vR (some (g.2 25 0)), vI (nwBa (zN s) b).1, vI (b2i (nwBa (zN s) b).2.1), vI (nwBa (zN s) b).2.2.1, vI (nwBa (zN s) b).2.2.2.1, vI (nwBa (zN s) b).2.2.2.2.1, vI (nwBa (zN s) b).2.2.2.2.2]) := ⟨_, rfl⟩
  have p1 : pI .boolean S (some (g.2 1 0)) 0 7 (b2i b) = some S1 := by
    simp only [pI, fit_b, if_true, pF_e h1.1]
    rw [if_pos (by simp), e1]; rfl
  obtain ⟨r1, r2⟩ := RK_num hh _ e1
  refine ⟨S1, g, ?_, KX_all r2 (by decide), r1⟩
  simp only [n_X1_battery, kn_7 h1, ob_s, p1, rt_b, id, opBattery]
theorem k_limits (h : RK g s S) (x y : Int32) : KO [IAE] 10 g S (n_X1_limits S (some (g.2 1 0)) x y) (opLimits s x y) := by
  have hh := h
  obtain ⟨h1, -⟩ := h
  have hbad : KO [IAE] 10 g S (n_X1_limits_b23 S (some (g.2 1 0)) x y) (1, 0, s) := by
    simp only [n_X1_limits_b23, n_X1_limits_b24, k_check0, tbn_x]
    exact KO_x (j := 0) rfl hh 0 (by decide) (by decide)
  simp only [n_X1_limits, k_isIn, bn_s, opLimits, b2i_0]
  rcases Bool.eq_false_or_eq_true (inI x 0 3) with b1 | b1
  · rcases Bool.eq_false_or_eq_true (inI y 1 20) with b2 | b2
    · rw [if_neg (by rw [b1]; decide), if_neg (by rw [b2]; decide), if_pos ⟨b1, b2⟩]
      obtain ⟨S1, e1⟩ : ∃ S1, S1 = sup S (g.2 1 0) (cO 0 [vR (some (g.2 20 0)), vR (some (g.2 21 0)), vR (some (g.2 22 0)), vR (some (g.2 23 0)), vR (some (g.2 24 0)), vR (some (g.2 25 0)), vI (zN s).1, vI (b2i (zN s).2.1), vI (zN s).2.2.1, vI (zN s).2.2.2.1, vI x, vI (zN s).2.2.2.2.2]) := ⟨_, rfl⟩
      have p1 : pI .int S (some (g.2 1 0)) 0 10 x = some S1 := by
        rw [e1, pI_e h1.1, if_pos (by simp)]; rfl
      have c1 : S1.1 (g.2 1 0) = some (cO 0 [vR (some (g.2 20 0)), vR (some (g.2 21 0)), vR (some (g.2 22 0)), vR (some (g.2 23 0)), vR (some (g.2 24 0)), vR (some (g.2 25 0)), vI (zN s).1, vI (b2i (zN s).2.1), vI (zN s).2.2.1, vI (zN s).2.2.2.1, vI x, vI (zN s).2.2.2.2.2]) := by rw [e1]; exact sup_at _ _ _
      obtain ⟨S2, e2⟩ : ∃ S2, S2 = sup S (g.2 1 0) (cO 0 [vR (some (g.2 20 0)), vR (some (g.2 21 0)), vR (some (g.2 22 0)), vR (some (g.2 23 0)), vR (some (g.2 24 0)), vR (some (g.2 25 0)), vI (nwLi (zN s) x y).1, vI (b2i (nwLi (zN s) x y).2.1), vI (nwLi (zN s) x y).2.2.1, vI (nwLi (zN s) x y).2.2.2.1, vI (nwLi (zN s) x y).2.2.2.2.1, vI (nwLi (zN s) x y).2.2.2.2.2]) := ⟨_, rfl⟩
      have p2 : pI .int S1 (some (g.2 1 0)) 0 11 y = some S2 := by
        rw [e2, pI_e c1, if_pos (by simp), e1, sup_sup]; rfl
      obtain ⟨r1, r2⟩ := RK_num hh _ e2
      simp only [n_X1_limits_b24, k_check1, tbn_s, kn_11 h1, ob_s, p1, p2, rt_i]
      exact KO_s (KX_all r2 (by decide)) r1
    · rw [if_neg (by rw [b1]; decide), if_pos b2, if_neg (by rw [b2]; simp)]; exact hbad
  · rw [if_pos b1, if_neg (by rw [b1]; simp)]; exact hbad
end
