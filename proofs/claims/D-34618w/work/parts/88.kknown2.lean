/-! the keeper's work: isKnownBelow -/
section
variable {S S' S1 : St} {g g' : GA} {T U : List Nat} {n m a b c x y t i : Nat} {f f' : Fl} {rs : List RtV} {en : En} {o : Nat → Option Nat} {ac : List AcV} {sg : List SgV} {w : Int64} {nm : Nm} {s : Sg} {rk : Nat → Nat} {k p : Nat} {e : EnV}
theorem kbl_n (a : Nat) (c : Nat) : kbl rs en a c none = false := by cases c <;> rfl
theorem k_isKnownBelow (hn : RKn g nm S) (hf : RKf g f S) (h : RKr g rs S) (he : RKe g en o S) (hc : RKc g S) (hR : RS f rs) (hE : ES f en) (h6 : fMd f ≤ 60) (hk : k < fMd f) (ha : a < fMd f) : ∃ S', n_X1_isKnownBelow S (some (g.2 1 0)) (some (g.2 2 k)) (some (g.2 2 a)) = some (b2i (knb rs en k a), S') ∧ KX [0] [] 61 g S g S' := by
  have key : ∀ (c : Nat), c < 62 → ∀ (m : Nat), c < m → ∀ (v : Nat) (S1 : St), v < 60 → KX [0] [] (61 - c) g S g S1 → ∃ S', n_X1_isKnownBelow_b13 m S1 (some (g.2 1 0)) (some (g.2 2 a)) (if (en v).isSome then some (g.2 9 v) else none) (nI (61 - c)) = some (b2i (kbl rs en a (c + 1) ((en v).map (·.1))), S') ∧ KX [0] [] 61 g S g S' := by
    intro c
    induction c with
    | zero =>
      intro _ m hm v S1 hv hx
      obtain ⟨m, rfl⟩ : ∃ m', m = m' + 1 := ⟨m - 1, by omega⟩
      have e1 := he.kx hx
      have f1 := hf.kx hx
      refine ⟨S1, ?_, KX_n hx (by omega)⟩
      have e60 : ((60 : Int32) < nI (61 - 0)) = True := by simp; decide +kernel
      cases hev : en v with
      | none => simp only [n_X1_isKnownBelow_b13, n_X1_isKnownBelow_b62, Option.isSome_none, Bool.false_eq_true, if_false, if_true, rt_b0, id, Option.map_none, kbl_n]
      | some ev =>
        have hb := (hE v ev hev).2.1
        simp only [n_X1_isKnownBelow_b13, n_X1_isKnownBelow_b62, Option.isSome_some, if_true, reduceCtorEq, if_false, en_1 e1 hev, ob_s, nd_some f1 hb ha, e60, rt_b0, rt_b1, id, Option.map_some, kbl, Bool.or_false]
        by_cases e : ev.1 = a
        · simp [e]
        · simp [e, beq_false_of_ne e]
    | succ c ih =>
      intro hc62 m hm v S1 hv hx
      obtain ⟨m, rfl⟩ : ∃ m', m = m' + 1 := ⟨m - 1, by omega⟩
      have n1 := hn.kx hx
      have e1 := he.kx hx
      have f1 := hf.kx hx
      have r1 := h.kx hx
      have c1 := hc.kx hx (FR_sm hc.2.2.2 hx.le)
      have e60 : ((60 : Int32) < nI (61 - (c + 1))) = False := by
        rw [li_60, nI_ltE (by decide) (by omega)]; exact eq_false (by omega)
      cases hev : en v with
      | none =>
        refine ⟨S1, ?_, KX_n hx (by omega)⟩
        simp only [n_X1_isKnownBelow_b13, n_X1_isKnownBelow_b62, Option.isSome_none, Bool.false_eq_true, if_false, if_true, rt_b0, id, Option.map_none, kbl_n]
      | some ev =>
        have hb := (hE v ev hev).2.1
        obtain ⟨S2, q1, q2⟩ := k_isRoot n1 f1 r1 c1 hR hb
        have hx2 := KX_tr hx q2
        have n2 := hn.kx hx2
        have e2 := he.kx hx2
        have f2 := hf.kx hx2
        obtain ⟨S3, w1, w2⟩ := ih (by omega) m (by omega) ev.1 S2 (by omega) (KX_n hx2 (by omega))
        have ek : kbl rs en a (c + 1 + 1) (some ev.1) = (ev.1 == a || kbl rs en a (c + 1) (kst rs en ev.1)) := rfl
        simp only [n_X1_isKnownBelow_b13, n_X1_isKnownBelow_b62, Option.isSome_some, if_true, reduceCtorEq, if_false, en_1 e1 hev, ob_s, nd_some f1 hb ha, e60, rt_b0, rt_b1, id, Option.map_some, ek, n1.cl, gd_t, q1, bn_s, b2i_0]
        by_cases e : ev.1 = a
        · exact ⟨S1, by simp [e], KX_n hx (by omega)⟩
        · simp only [e, if_false, beq_false_of_ne e, Bool.false_or, kst]
          rcases Bool.eq_false_or_eq_true (isR rs ev.1) with b | b
          · refine ⟨S2, ?_, KX_n hx2 (by omega)⟩
            simp only [b, Bool.true_eq_false, if_false, if_true, kbl_n, en_1 e2 hev, ob_s, nd_some f2 hb ha, e]
          · refine ⟨S3, ?_, w2⟩
            simp only [b, if_true, Bool.false_eq_true, if_false, kn_2 n2, ob_s, en_1 e2 hev, nd_0 f2 hb, en_get e2 (show ev.1 < 60 by omega), nI_1]
            rw [show 61 - (c + 1) + 1 = 61 - c by omega]
            exact w1
  have e0 := nd_0 hf hk
  obtain ⟨S', w1, w2⟩ := key 61 (by omega) FU (by simp only [FU]; omega) k S (by omega) (KX_n (KX_rf (by decide)) (by omega))
  refine ⟨S', ?_, w2⟩
  have e62 : kbl rs en a (61 + 1) ((en k).map (·.1)) = knb rs en k a := kbl_62 hE h6 (fun u hu => by
    obtain ⟨ev, hev, rfl⟩ := Option.map_eq_some_iff.mp hu
    exact (hE k ev hev).2.1) a
  rw [e62] at w1
  simp only [n_X1_isKnownBelow, kn_2 hn, ob_s, e0, en_get he (show k < 60 by omega)]
  exact w1
end
