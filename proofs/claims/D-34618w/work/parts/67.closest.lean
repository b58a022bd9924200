/-! the reference's questions: the closest pair of words -/
section
variable {M : Nat} {S : St} {u v w : MM} {f f' : Fl} {rs rs' : List RtV} {en : En} {ac : List AcV} {s : Sg} {rk rk' : Nat → Nat} {l : List Int32} {x y : Int32} {n : Nat}
theorem nI_div {a b : Nat} (ha : a < 2 ^ 31) (hb : b < 2 ^ 31) : nI a / nI b = nI (a / b) := (Int32.ofNat_div ha hb).symm
theorem cl_ok {x y : Int32} : ∀ a c, clO l x y a = some c → c.1 < a ∧ c.2 < l.length := by
  have hI : ∀ (a : Nat) (best : Option (Nat × Nat)), (∀ c, best = some c → c.1 < a + 1 ∧ c.2 < l.length) → ∀ k, k ≤ l.length → ∀ c, clI l x y a best k = some c → c.1 < a + 1 ∧ c.2 < l.length := by
    intro a best hb k
    induction k with
    | zero => intro _; exact hb
    | succ k ih =>
      intro hk c hc
      simp only [clI] at hc
      split at hc
      · cases hc; exact ⟨by simp, by show k < l.length; omega⟩
      · exact ih (by omega) c hc
  intro a
  induction a with
  | zero => intro c hc; cases hc
  | succ a ih => exact fun c hc => hI a _ (fun c hc => by have := ih c hc; exact ⟨by omega, this.2⟩) _ (Nat.le_refl _) c hc
theorem clI_ok {x y : Int32} {a : Nat} {best : Option (Nat × Nat)} (hb : ∀ c, best = some c → c.1 < a + 1 ∧ c.2 < l.length) : ∀ k, k ≤ l.length → ∀ c, clI l x y a best k = some c → c.1 < a + 1 ∧ c.2 < l.length := by
  intro k
  induction k with
  | zero => intro _; exact hb
  | succ k ih =>
    intro hk c hc
    simp only [clI] at hc
    split at hc
    · cases hc; exact ⟨by simp, by show k < l.length; omega⟩
    · exact ih (by omega) c hc
theorem q_isCloser {a b c d : Nat} (ha : a < 2 ^ 31) (hb : b < 2 ^ 31) (hc : c < 2 ^ 31) (hd : d < 2 ^ 31) : n_X3_isCloser S (nI a) (nI b) (nI c) (nI d) = some (b2i (clsr a b c d), S) := by
  have h54 : ∀ p q r t : Nat, p < 2 ^ 31 → q < 2 ^ 31 → r < 2 ^ 31 → t < 2 ^ 31 → n_X3_isCloser_b54 S (nI a) (nI c) (nI p) (nI q) (nI r) (nI t) = some (b2i (if p = q then (if r = t then decide (a < c) else decide (r < t)) else decide (p < q)), S) := by
    intro p q r t h1 h2 h3 h4
    simp only [n_X3_isCloser_b54, nI_eqE h1 h2, nI_eqE h3 h4, nI_leE hc ha, nI_leE h4 h3, nI_leE h2 h1]
    by_cases e1 : p = q
    · by_cases e2 : r = t
      · by_cases e3 : c ≤ a
        · have : ¬ a < c := by omega
          simp [e1, e2, e3, this, rt_b0]
        · have : a < c := by omega
          simp [e1, e2, e3, this, rt_b1]
      · by_cases e3 : t ≤ r
        · have : ¬ r < t := by omega
          simp [e1, e2, e3, this, rt_b0]
        · have : r < t := by omega
          simp [e1, e2, e3, this, rt_b1]
    · by_cases e3 : q ≤ p
      · have : ¬ p < q := by omega
        simp [e1, e3, this, rt_b0]
      · have : p < q := by omega
        simp [e1, e3, this, rt_b1]
  simp only [n_X3_isCloser, n_X3_isCloser_b14, n_X3_isCloser_b30, n_X3_isCloser_b42, nI_leE hb ha, nI_leE hd hc, clsr, dif, mnn]
  by_cases e1 : b ≤ a <;> by_cases e2 : d ≤ c
  · simp only [e1, e2, if_true, nI_subI e1, nI_subI e2]; exact h54 _ _ _ _ (by omega) (by omega) (by omega) (by omega)
  · simp only [e1, e2, if_true, if_false, nI_subI e1, nI_subI (show c ≤ d by omega)]; exact h54 _ _ _ _ (by omega) (by omega) (by omega) (by omega)
  · simp only [e1, e2, if_true, if_false, nI_subI e2, nI_subI (show a ≤ b by omega)]; exact h54 _ _ _ _ (by omega) (by omega) (by omega) (by omega)
  · simp only [e1, e2, if_false, nI_subI (show a ≤ b by omega), nI_subI (show c ≤ d by omega)]; exact h54 _ _ _ _ (by omega) (by omega) (by omega) (by omega)
theorem q_clo (h : WDp n l u) (n60 : n < 60) (x y : Int32) : n_X3_closest_b93 (mput M S u) (some M) (nI n) x y (-1) (nI l.length) = some (clV (clO l x y l.length), mput M S u) := by
  obtain ⟨h1, h2, h3⟩ := h
  have hz : l.length < 2 ^ 31 := by omega
  unfold n_X3_closest_b93
  have key := lp_u0 (fun m a => n_X3_closest_b98 m (mput M S u) (some M) (nI n) x y (clV (clO l x y a)) (nI l.length) (nI a)) l.length (some (clV (clO l x y l.length), mput M S u)) ?_ ?_ (m := FU) (by simp only [FU]; omega)
  · simp only [clO, clV, nI_0] at key
    exact key
  · intro m a ha
    have ha2 : l[a]? = some l[a] := List.getElem?_eq_getElem ha
    simp only [n_X3_closest_b98, nI_leE hz (show a < 2 ^ 31 by omega)]
    rw [if_neg (by omega)]
    have hbest : ∀ c, clO l x y a = some c → c.1 < a + 1 ∧ c.2 < l.length := fun c hc => by
      have := cl_ok a c hc
      exact ⟨by omega, this.2⟩
    have inner := lp_u0 (fun m2 k => n_X3_closest_b108 (n_X3_closest_b98 m) m2 (mput M S u) (some M) (nI n) x y (clV (clI l x y a (clO l x y a) k)) (nI l.length) (nI a) (nI k)) l.length (n_X3_closest_b98 m (mput M S u) (some M) (nI n) x y (clV (clO l x y (a + 1))) (nI l.length) (nI (a + 1))) ?_ ?_ (m := FU) (by simp only [FU]; omega)
    · simp only [clI, nI_0] at inner
      exact inner
    · intro m2 k hk
      have hk2 : l[k]? = some l[k] := List.getElem?_eq_getElem hk
      obtain ⟨B, eB⟩ : ∃ B, B = clI l x y a (clO l x y a) k := ⟨_, rfl⟩
      have hB : ∀ c, B = some c → c.1 < a + 1 ∧ c.2 < l.length := fun c hc => clI_ok hbest k (by omega) c (by rw [← eB]; exact hc)
      have h203 : ∀ b : Int32, n_X3_closest_b203 (n_X3_closest_b98 m) (n_X3_closest_b108 (n_X3_closest_b98 m) m2) (mput M S u) (some M) (nI n) x y b (nI l.length) (nI a) (nI k) = n_X3_closest_b108 (n_X3_closest_b98 m) m2 (mput M S u) (some M) (nI n) x y b (nI l.length) (nI a) (nI (k + 1)) := fun b => by
        simp only [n_X3_closest_b203, nI_1]
      have h193 : n_X3_closest_b193 (n_X3_closest_b98 m) (n_X3_closest_b108 (n_X3_closest_b98 m) m2) (mput M S u) (some M) (nI n) x y (nI l.length) (nI a) (nI k) = n_X3_closest_b108 (n_X3_closest_b98 m) m2 (mput M S u) (some M) (nI n) x y (clV (some (a, k))) (nI l.length) (nI a) (nI (k + 1)) := by
        simp only [n_X3_closest_b193, h203, li_100, nI_mul, nI_add, clV]
      have eC : clI l x y a (clO l x y a) (k + 1) = if a ≠ k ∧ l[a]? = some x ∧ l[k]? = some y ∧ clB a k B = true then some (a, k) else B := by rw [eB]; rfl
      rw [eC]
      simp only [n_X3_closest_b108, n_X3_closest_b159, n_X3_closest_b160, nI_leE hz (show k < 2 ^ 31 by omega), nI_eqE (show a < 2 ^ 31 by omega) (show k < 2 ^ 31 by omega), mR_27, ob_s, li_20, nI_mul, nI_add, ma_23 (show 20 * n + a < 1200 by omega), ma_23 (show 20 * n + k < 1200 by omega), h3 a _ ha2, h3 k _ hk2, if_true, h203, h193, show ((1 : Int32) = 0) = False by simp, show ((100 : Int32) = 0) = False by simp, if_false, ha2, hk2, Option.some.injEq, ne_eq, ← eB]
      rw [if_neg (by omega)]
      by_cases e1 : a = k
      · simp [e1]
      · by_cases e2 : l[a] = x
        · by_cases e3 : l[k] = y
          · simp only [e1, e2, e3, if_false, if_true, not_false_eq_true, true_and]
            cases hBB : B with
            | none => simp [clV, clB]
            | some c =>
              obtain ⟨b1, b2⟩ := hB c hBB
              have hcz : 100 * c.1 + c.2 < 2 ^ 31 := by omega
              have hd : nI (100 * c.1 + c.2) / 100 = nI c.1 := by
                rw [li_100, nI_div hcz (by decide)]; congr 1; omega
              have hm : nI (100 * c.1 + c.2) - nI c.1 * 100 = nI c.2 := by
                rw [li_100, nI_mul, nI_subI (by omega)]; congr 1; omega
              simp only [clB, clV, nI_e1 hcz, if_false, hd, hm, q_isCloser (show a < 2 ^ 31 by omega) (show k < 2 ^ 31 by omega) (show c.1 < 2 ^ 31 by omega) (show c.2 < 2 ^ 31 by omega), bn_s, b2i_0, h203, h193]
              rcases Bool.eq_false_or_eq_true (clsr a k c.1 c.2) with b | b <;> simp [b]
          · simp [e1, e2, e3]
        · simp [e1, e2]
    · intro m2
      simp only [n_X3_closest_b108, nI_leE hz hz, Nat.le_refl, if_true, nI_1]
      rfl
  · intro m
    simp only [n_X3_closest_b98, nI_leE hz hz, Nat.le_refl, if_true, rt_i, id]
theorem q_closest (hI : IW s rk) (hs : RA s u) (p x w y : Int32) : ∃ v b, n_X3_closest (mput M S u) (some M) p x w y = some (b, mput M S v) ∧ RO (opClosest s p x w y) b v := by
  obtain ⟨A, h6, hT, hN, hB, hE, hF, hS, hF1, hE0, hW⟩ := hI
  have hh := hs
  obtain ⟨⟨hf, hr, he, ha, hsg, hw, hnn⟩, hz⟩ := hs
  simp only [n_X3_closest, n_X3_closest_b26, n_X3_closest_b58, q_in, bn_s, b2i_0, mg_c, gd_t, q_fails, rt_i, id, opClosest, q_isFileAt hf h6]
  have bad : ∃ v b, some ((0 : Int32), mput M S (ui u 0 1)) = some (b, mput M S v) ∧ RO (1, 0, s) b v := ⟨ui u 0 1, 0, rfl, RO_fail hh 1 0 (by decide)⟩
  rcases Bool.eq_false_or_eq_true (inI p 0 3) with b1 | b1
  · simp only [b1, Bool.true_eq_false, if_false]
    cases hfi : fiA (zF s) x with
    | none => simp only [Option.isSome_none, if_true]; exact bad
    | some n =>
      obtain ⟨hn, rfl, hgo, hfo⟩ := fiA_some hfi h6
      have n60 : n < 60 := by omega
      simp only [Option.isSome_some, Bool.true_eq_false, if_false, mg_c, gd_t, q_mayReadAt hf A h6 hn, bn_s, b2i_0]
      rcases Bool.eq_false_or_eq_true (mrd (zF s) p n) with b2 | b2
      · simp only [b2, Bool.true_eq_false, if_false]
        rcases Bool.eq_false_or_eq_true (inI w 0 99 && inI y 0 99) with b3 | b3
        · obtain ⟨c1, c2⟩ := Bool.and_eq_true_iff.mp b3
          simp only [b3, c1, c2, Bool.true_eq_false, if_false]
          have n60 : n < 60 := by omega
          simp only [n_X3_closest_b59, mw_0, ob_s, mI_0, ui_1, if_true, i_le00, mR_22, ma_18 n60, ui_2, (he n n60).1, b2i_0, mR_26, ma_22 n60]
          obtain ⟨v, ev⟩ : ∃ v, v = ui u 0 0 := ⟨_, rfl⟩
          have hs1 : RA s v := by rw [ev]; exact hh.th _
          have hv0 : v.1 0 = 0 := by rw [ev, ui_1, if_pos rfl]
          rw [← ev]
          refine ⟨v, _, ?_, RO_ok hs1 hv0⟩
          cases hen : zE s n with
          | none =>
            simp only [Option.isSome_none, if_true, eWd, hen]
            obtain ⟨m, hFU⟩ : ∃ m, FU = m + 1 := ⟨99999, rfl⟩
            simp only [n_X3_closest_b93, hFU, n_X3_closest_b98, show ((0 : Int32) ≤ 0) = True by simp, if_true, rt_i, id, List.length_nil, clO, clV]
          | some e =>
            have hwd := hs1.1.2.2.1.wd hE h6 hen hfo
            have h22 : u.2 22 n = nI e.2.2.2.length := (he.wd hE h6 hen hfo).2.1
            simp only [Option.isSome_some, Bool.true_eq_false, if_false, h22]
            rw [q_clo hwd n60 w y]
            simp only [eWd, hen]
        · simp only [b3, if_true]
          have : ∀ z : Bool, n_X3_closest_b59 (mput M S u) (some M) (nI n) w y 2 (some M) = some (0, mput M S (ui u 0 2)) := fun _ => by
            simp only [n_X3_closest_b59, mw_0, ob_s, mI_0, ui_1, if_true, i_nle0_2, if_false, rt_i, id]
          have h2 := this true
          refine ⟨ui u 0 2, 0, ?_, RO_fail hh 2 0 (by decide)⟩
          rcases Bool.eq_false_or_eq_true (inI w 0 99) with c1 | c1
          · have c2 : inI y 0 99 = false := by rw [c1] at b3; simpa using b3
            simp [c1, c2, h2]
          · simp [c1, h2]
      · simp only [b2, if_true, mg_c, gd_t, q_fails, bn_s]; exact bad
  · simp only [b1, if_true]; exact bad
end
