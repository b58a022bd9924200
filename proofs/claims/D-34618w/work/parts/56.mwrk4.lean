/-! the reference's work: an act -/
section
variable {M : Nat} {S : St} {u v w : MM} {f f' : Fl} {rs rs' : List RtV} {en : En} {ac : List AcV} {s : Sg} {rk rk' : Nat → Nat}
theorem blw_par (A : AC f rk) {n a : Nat} (hn : n < fMd f) (h : blw f n a = true) : ∃ p, fPa f n = some p ∧ p < fMd f := by
  rw [blw_eq A hn] at h
  cases hp : fPa f n with
  | none => rw [hp] at h; cases h
  | some p => exact ⟨p, rfl, ((A n hn).2 p hp).1⟩
theorem abv_par (A : AC f rk) {n : Nat} (hn : n < fMd f) (h : (abv f rs n).isSome = true) : ∃ p, fPa f n = some p ∧ p < fMd f := by
  unfold abv at h
  split at h
  · cases h
  · cases hf : rs.find? (fun r => blw f n r.1) with
    | none => rw [hf] at h; cases h
    | some r =>
      have hb := List.find?_some hf
      exact blw_par A hn hb
theorem RMe_fu {n : Nat} {E : EnV} (h : RMe f en u) (hx : ∀ j, j < 60 → j ≠ n → (∀ p ∈ [18, 19, 20, 21, 22], v.2 p j = u.2 p j) ∧ ∀ q, q < 20 → v.2 23 (20 * j + q) = u.2 23 (20 * j + q)) (hl : ∀ k e, en k = some e → e.2.2.2.length ≤ 20) (h0 : v.2 18 n = b2i true) (h1 : v.2 19 n = nI E.1) (h2 : v.2 20 n = E.2.1) (h3 : v.2 21 n = nI E.2.2.1) (h4 : fFo f n = false → v.2 22 n = nI E.2.2.2.length ∧ ∀ j w, E.2.2.2[j]? = some w → v.2 23 (20 * n + j) = w) : RMe f (fu en n (some E)) v := by
  intro k hk
  by_cases e : k = n
  · subst e
    rw [fu_s]
    refine ⟨h0, fun e he => ?_⟩
    cases he
    exact ⟨h1, h2, h3, h4⟩
  · rw [fu_n _ _ e]
    obtain ⟨x1, x2⟩ := hx k hk e
    obtain ⟨a0, a1⟩ := h k hk
    refine ⟨(x1 18 (by decide)).trans a0, fun e he => ?_⟩
    obtain ⟨b1, b2, b3, b4⟩ := a1 e he
    refine ⟨(x1 19 (by decide)).trans b1, (x1 20 (by decide)).trans b2, (x1 21 (by decide)).trans b3, fun hf => ⟨(x1 22 (by decide)).trans (b4 hf).1, fun j w hj => ?_⟩⟩
    have hq : j < 20 := by
      have := (List.getElem?_eq_some_iff.mp hj).1
      have := hl k e he
      omega
    exact (x2 j hq).trans ((b4 hf).2 j w hj)
def PLp (n : Nat) (u v : MM) : Prop := Ag [] [18, 19, 20] u v ∧ (∀ p ∈ [18, 19, 20], ∀ j, j ≠ n → v.2 p j = u.2 p j) ∧ v.2 18 n = b2i true ∧ v.2 19 n = u.2 2 n ∧ v.2 20 n = u.2 3 n
theorem q_places {n : Nat} (n60 : n < 60) (hc : gfit .char (u.2 3 n) = true) : ∃ v, n_X3_places (mput M S u) (some M) (nI n) = some ((), mput M S v) ∧ PLp n u v := by
  obtain ⟨v1, z1⟩ : ∃ x, x = ua u 18 n (b2i true) := ⟨_, rfl⟩
  obtain ⟨v2, z2⟩ : ∃ x, x = ua v1 19 n (u.2 2 n) := ⟨_, rfl⟩
  obtain ⟨v3, z3⟩ : ∃ x, x = ua v2 20 n (u.2 3 n) := ⟨_, rfl⟩
  have t1 := ms_18 (M := M) (S := S) (u := u) true n60
  have t2 := ms_19 (M := M) (S := S) (u := v1) (x := u.2 2 n) n60
  have t3 := ms_20 (M := M) (S := S) (u := v2) (x := u.2 3 n) n60 hc
  rw [← z1] at t1
  rw [← z2] at t2
  rw [← z3] at t3
  refine ⟨v3, ?_, ?_, ?_, ?_, ?_, ?_⟩
  · simp only [n_X3_places, mR_22, ob_s]
    rw [show (1 : Int32) = b2i true from rfl]
    simp only [t1, ob_s, mR_23, mR_5, ma_2 n60]
    rw [show v1.2 2 n = u.2 2 n by rw [z1, ua_2, if_neg (by simp)]]
    simp only [t2, ob_s, mR_24, mR_6, ma_3 n60]
    rw [show v2.2 3 n = u.2 3 n by rw [z2, z1, ua_2, if_neg (by simp), ua_2, if_neg (by simp)]]
    simp only [t3, ob_s]
  · rw [z3, z2, z1]; exact Ag_tr (Ag_tr (Ag_ua _ _ _ (by decide)) (Ag_ua _ _ _ (by decide))) (Ag_ua _ _ _ (by decide))
  · intro p hp j hj
    simp only [List.mem_cons, List.not_mem_nil, or_false] at hp
    rcases hp with rfl | rfl | rfl <;> simp [z3, z2, z1, ua_2, hj]
  · simp [z3, z2, z1, ua_2]
  · simp [z3, z2, ua_2]
  · simp [z3, ua_2]
def RDp (n : Nat) (W : List Int32) (u v : MM) : Prop := Ag [44] [21, 22, 23, 29, 30, 32] u v ∧ (∀ p ∈ [21, 22, 30], ∀ j, j ≠ n → v.2 p j = u.2 p j) ∧ (∀ j q, j ≠ n → q < 20 → v.2 23 (20 * j + q) = u.2 23 (20 * j + q)) ∧ v.2 21 n = u.2 4 n ∧ v.2 22 n = nI W.length ∧ (∀ j x, W[j]? = some x → v.2 23 (20 * n + j) = x) ∧ v.2 30 n = b2i true
theorem q_reads {nm : Nm} {P : List (Nat × Nat × Bool)} (hf : RMf f u) (hn : RMn nm u) (hF : FS f) (h6 : fMd f ≤ 60) {n : Nat} (hn1 : n < fMd f) (hP : RMp P u) (hP6 : P.length ≤ 600) (hPb : ∀ p ∈ P, p.2.1 < 60) : ∃ v, n_X3_reads (mput M S u) (some M) (nI n) = some ((), mput M S v) ∧ RDp n (takW nm (fMk f n)) u v ∧ RMp (kilP P n) v := by
  have n60 : n < 60 := by omega
  obtain ⟨v1, t0, g1, g2, g3, g4⟩ := q_takesWords (M := M) (S := S) hf hn hF h6 hn1
  obtain ⟨W, eW⟩ : ∃ W, W = takW nm (fMk f n) := ⟨_, rfl⟩
  rw [← eW] at g2 g3 g4 ⊢
  obtain ⟨v2, z2⟩ : ∃ x, x = ua v1 21 n (u.2 4 n) := ⟨_, rfl⟩
  obtain ⟨v3, z3⟩ : ∃ x, x = ua v2 22 n (nI W.length) := ⟨_, rfl⟩
  have t2 := ms_21 (M := M) (S := S) (u := v1) (x := u.2 4 n) n60
  have t3 := ms_22 (M := M) (S := S) (u := v2) (x := nI W.length) n60
  rw [← z2] at t2
  rw [← z3] at t3
  have a3 : Ag [44] [21, 22, 32] u v3 := by
    rw [z3, z2]
    exact Ag_tr (Ag_tr (Ag_up g1 (by decide) (by decide)) (Ag_ua _ _ _ (by decide))) (Ag_ua _ _ _ (by decide))
  have h44 : v3.1 44 = nI W.length := by rw [z3, z2]; exact g2
  have h32 : ∀ j x, W[j]? = some x → v3.2 32 j = x := fun j x hj => by rw [z3, z2, ua_2, if_neg (by simp), ua_2, if_neg (by simp)]; exact g3 j x hj
  have hz : W.length < 2 ^ 31 := by omega
  have key := lp_st (fun m k (v : MM) => n_X3_reads_b29 m (mput M S v) (some M) (nI n) (nI k)) (fun v => some ((), mput M S v)) (fun k v => Ag [] [23] v3 v ∧ (∀ j x, j < k → W[j]? = some x → v.2 23 (20 * n + j) = x) ∧ ∀ j q, j ≠ n → q < 20 → v.2 23 (20 * j + q) = v3.2 23 (20 * j + q)) (fun v => RDp n W u v ∧ RMp (kilP P n) v) W.length ?_ ?_ FU 0 v3 (Nat.zero_le _) (by simp only [FU]; omega) ⟨Ag_rf _ _ _, fun j x hj => by omega, fun j q _ _ => rfl⟩
  · obtain ⟨v, h1, h2⟩ := key
    rw [nI_0] at h2
    refine ⟨v, ?_, h1⟩
    simp only [n_X3_reads, mg_c, gd_t, t0, bn_s, mR_25, mR_7, ob_s, ma_4 n60]
    rw [show v1.2 4 n = u.2 4 n by rw [g1.2 4 (by decide)]]
    simp only [t2, ob_s, mR_26, mI_44]
    rw [show v2.1 44 = nI W.length by rw [z2]; exact g2]
    simp only [t3, ob_s, h2]
  · intro m k v hk ⟨q1, q2, q3⟩
    have hk2 : W[k]? = some W[k] := List.getElem?_eq_getElem hk
    have h32k : v.2 32 k = W[k] := by rw [q1.2 32 (by decide)]; exact h32 k _ hk2
    have t := ms_23 (M := M) (S := S) (u := v) (i := 20 * n + k) (x := W[k]) (by omega)
    refine ⟨ua v 23 (20 * n + k) W[k], ⟨Ag_tr q1 (Ag_ua _ _ _ (by decide)), fun j x hj hx => ?_, fun j q hj hq => ?_⟩, ?_⟩
    · rw [ua_2]
      by_cases e : j = k
      · subst e; rw [if_pos ⟨rfl, rfl⟩]; rw [hk2] at hx; exact Option.some.inj hx
      · rw [if_neg (by simp; omega)]; exact q2 j x (by omega) hx
    · rw [ua_2, if_neg (by simp; omega)]; exact q3 j q hj hq
    · simp only [n_X3_reads_b29, mI_44, ob_s, q1.1 44 (by decide), h44, nI_leE hz (show k < 2 ^ 31 by omega), mR_27, mR_45, ma_32 (show k < 20 by omega), h32k, li_20, nI_mul, nI_add, t, nI_1]
      rw [if_neg (by omega)]
  · intro m v ⟨q1, q2, q3⟩
    have a4 : Ag [44] [21, 22, 23, 32] u v := Ag_tr (Ag_up a3 (by decide) (by decide)) (Ag_up q1 (by decide) (by decide))
    obtain ⟨v5, d1, d2, d3⟩ := q_kills (M := M) (S := S) (hP.ag a4) hP6 hPb n60
    have t := ms_30 (M := M) (S := S) (u := v5) true n60
    have a6 : Ag [] [29, 30] v (ua v5 30 n (b2i true)) := Ag_tr (Ag_up d2 (by decide) (by decide)) (Ag_ua _ _ _ (by decide))
    refine ⟨ua v5 30 n (b2i true), ⟨⟨Ag_tr (Ag_up a4 (by decide) (by decide)) (Ag_up a6 (by decide) (by decide)), fun p hp j hj => ?_, fun j q hj hq => ?_, ?_, ?_, fun j x hj => ?_, ?_⟩, d3.ag (Ag_ua (I := []) (P := [30]) _ _ _ (by decide))⟩, ?_⟩
    · simp only [List.mem_cons, List.not_mem_nil, or_false] at hp
      rcases hp with rfl | rfl | rfl
      · rw [a6.2 21 (by decide), q1.2 21 (by decide), z3, z2]; simp [ua_2, hj, g1.2 21 (by decide)]
      · rw [a6.2 22 (by decide), q1.2 22 (by decide), z3, z2]; simp [ua_2, hj, g1.2 22 (by decide)]
      · rw [ua_2, if_neg (by simp [hj]), d2.2 30 (by decide), a4.2 30 (by decide)]
    · rw [a6.2 23 (by decide), q3 j q hj hq, a3.2 23 (by decide)]
    · rw [a6.2 21 (by decide), q1.2 21 (by decide), z3, z2]; simp [ua_2]
    · rw [a6.2 22 (by decide), q1.2 22 (by decide), z3]; simp [ua_2]
    · rw [a6.2 23 (by decide)]; exact q2 j x (List.getElem?_eq_some_iff.mp hj).1 hj
    · rw [ua_2, if_pos ⟨rfl, rfl⟩]
    · simp only [n_X3_reads_b29, mI_44, ob_s, q1.1 44 (by decide), h44, nI_leE hz hz, Nat.le_refl, if_true, mg_c, gd_t, d1, bn_s, mR_42]
      rw [show (1 : Int32) = b2i true from rfl, t, ob_s]
theorem lokA_AB {n : Nat} (hA : AB f ac) : ∀ k, k ≤ fMd f → AB f (lokA f n ac k) := by
  intro k
  induction k with
  | zero => intro _; exact hA
  | succ k ih =>
    intro hk
    simp only [lokA]
    split
    · exact adA_AB (ih (by omega)) (by omega)
    · exact ih (by omega)
theorem q_children (hf : RMf f u) (A : AC f rk) (h : RMa ac u) (hA : AB f ac) (h6 : fMd f ≤ 60) {n : Nat} (hn : n < fMd f) : ∃ v, n_X3_acts_b74 FU (mput M S u) (some M) (nI n) (nI 0) = some ((), mput M S v) ∧ Ag [30] [24, 25, 26] u v ∧ RMa (lokA f n ac (fMd f)) v := by
  have hz : fMd f < 2 ^ 31 := by omega
  obtain ⟨v, h1, h2⟩ := lp_st (fun m k (v : MM) => n_X3_acts_b74 m (mput M S v) (some M) (nI n) (nI k)) (fun v => some ((), mput M S v)) (fun k v => Ag [30] [24, 25, 26] u v ∧ RMa (lokA f n ac k) v) (fun v => Ag [30] [24, 25, 26] u v ∧ RMa (lokA f n ac (fMd f)) v) (fMd f) (by
    intro m k v hk ⟨g1, g2⟩
    have k60 : k < 60 := by omega
    have hfv := hf.ag g1
    have hq : ∀ q, fPa f k = some q → q < 2 ^ 31 := fun q hq => by have := ((A k hk).2 q hq).1; omega
    have h111 : ∀ w : MM, n_X3_acts_b111 (n_X3_acts_b74 m) (mput M S w) (some M) (nI n) (nI k) = n_X3_acts_b74 m (mput M S w) (some M) (nI n) (nI (k + 1)) := fun w => by simp only [n_X3_acts_b111, nI_1]
    simp only [n_X3_acts_b74, mI_2, ob_s, hfv.1, nI_leE hz (show k < 2 ^ 31 by omega), mR_3, ma_0 k60, hfv.go hk, b2i_0, mR_5, ma_2 k60, hfv.pa hk, prI_eq (show n < 2 ^ 31 by omega) hq, mg_c, gd_t, h111]
    rw [if_neg (by omega)]
    simp only [lokA]
    rcases Bool.eq_false_or_eq_true (fGo f k) with b1 | b1
    · exact ⟨v, ⟨g1, by simpa [b1] using g2⟩, by simp [b1]⟩
    · by_cases b2 : fPa f k = some n
      · obtain ⟨v2, e1, e2, e3⟩ := q_adds (M := M) (S := S) g2 (lokA_AB hA k (by omega)) h6 hk false
        have e1' : n_X3_adds (mput M S v) (some M) (nI k) 1 = some ((), mput M S v2) := e1
        exact ⟨v2, ⟨Ag_tr g1 e2, by simpa [b1, b2] using e3⟩, by simp [b1, b2, e1', bn_s, h111]⟩
      · exact ⟨v, ⟨g1, by simpa [b1, b2, beq_false_of_ne b2] using g2⟩, by simp [b1, b2]⟩) (by
    intro m v ⟨g1, g2⟩
    refine ⟨v, ⟨g1, g2⟩, ?_⟩
    simp only [n_X3_acts_b74, mI_2, ob_s, (hf.ag g1).1, nI_leE hz hz, Nat.le_refl, if_true]) FU 0 u (Nat.zero_le _) (by simp only [FU]; omega) ⟨Ag_rf _ _ _, h⟩
  exact ⟨v, h2, h1⟩
/-- what holds of a state in a work -/
def IW (s : Sg) (rk : Nat → Nat) : Prop := AC (zF s) rk ∧ fMd (zF s) ≤ 60 ∧ RT (zF s) (zR s) ∧ RN (zF s) (zR s) ∧ AB (zF s) (zA s) ∧ ES (zF s) (zE s) ∧ FS (zF s) ∧ SS (zF s) (zE s) (zS s) ∧ (∀ k, k < fMd (zF s) → 0 < fEd (zF s) k ∧ gfit .char (fNm (zF s) k) = true) ∧ (∀ k e, zE s k = some e → fFo (zF s) k = true → e.2.2.1 = 0) ∧ (∀ k, k < 60 → tb (zW s) k = true → k < fMd (zF s) ∧ fFo (zF s) k = false)
theorem eraseIdx_AB (hA : AB f ac) (i : Nat) : AB f (ac.eraseIdx i) := by
  refine ⟨?_, fun a ha => hA.2 a (List.mem_of_mem_eraseIdx ha)⟩
  exact ((List.eraseIdx_sublist ac i).map (·.1)).nodup hA.1
end
