/-! the reference's calls: files, further -/
section
variable {M : Nat} {S : St} {u v w : MM} {s : Sg} {rk : Nat → Nat}
theorem b2i_le0 (b : Bool) : (b2i b ≤ 0) = (b = false) := by cases b <;> simp [b2i]
/-- marks and edition change, a notice comes -/
theorem q_wrt (h : RA s u) (A : AC (zF s) rk) (h6 : fMd (zF s) ≤ 60) (hT : RT (zF s) (zR s)) (hN : RN (zF s) (zR s)) {n : Nat} (hn : n < fMd (zF s)) (ms : List Int32) (hag : Ag [0] [4, 5, 6] u v) (h4 : ∀ k, k < fMd (zF s) → v.2 4 k = nI (if k = n then fEd (zF s) n + 1 else fEd (zF s) k)) (h5 : ∀ k, v.2 5 k = if k = n then nI ms.length else u.2 5 k) (h7 : ∀ j m, ms[j]? = some m → v.2 6 (20 * n + j) = m) (h8 : ∀ k j m, k < fMd (zF s) → k ≠ n → (fMk (zF s) k)[j]? = some m → v.2 6 (20 * k + j) = m) : ∃ v', n_X3_over (mput M S v) (some M) (nI n) = some (prI (ovr (zF s) (zR s) n), mput M S v) ∧ n_X3_comes (mput M S v) (some M) (prI (ovr (zF s) (zR s) n)) 1 (nI n) = some ((), mput M S v') ∧ RA (wrtS s n ms) v' ∧ v'.1 0 = v.1 0 ∧ v'.2 4 = v.2 4 := by
  obtain ⟨⟨hf, hr, he, ha, hs, hw, hnn⟩, hz⟩ := h
  obtain ⟨f', ef⟩ : ∃ f', f' = fwEd (fwMk (zF s) (fu (fMk (zF s)) n ms)) (fu (fEd (zF s)) n (fEd (zF s) n + 1)) := ⟨_, rfl⟩
  have hf1 : RMf f' v := by
    rw [ef]
    refine ⟨(hag.1 2 (by decide)).trans hf.1, fun k hk => ?_⟩
    have hk : k < fMd (zF s) := hk
    obtain ⟨k0, k1, k2, k3, k4, k5, k6, k7, k8⟩ := hf.2 k hk
    simp only [fFo_fwEd, fPa_fwEd, fNm_fwEd, fEd_fwEd, fMk_fwEd, fLk_fwEd, fPp_fwEd, fGo_fwEd, fFo_fwMk, fPa_fwMk, fNm_fwMk, fMk_fwMk, fLk_fwMk, fPp_fwMk, fGo_fwMk]
    rw [hag.2 0 (by decide), hag.2 1 (by decide), hag.2 2 (by decide), hag.2 3 (by decide), hag.2 7 (by decide), hag.2 8 (by decide)]
    refine ⟨k0, k1, k2, k3, ?_, ?_, fun j m hj => ?_, k7, k8⟩
    · rw [h4 k hk]; rfl
    · rw [h5 k]
      by_cases e : k = n
      · subst e; simp [fu_s]
      · simp [fu_n _ _ e, e]; exact k5
    · by_cases e : k = n
      · subst e; rw [fu_s] at hj; exact h7 j m hj
      · rw [fu_n _ _ e] at hj; exact h8 k j m hk e hj
  have hm : fMd f' = fMd (zF s) := by rw [ef]
  have A' : AC f' rk := by rw [ef]; exact A
  have hT' : RT f' (zR s) := by rw [ef]; exact hT
  have hN' : RN f' (zR s) := by rw [ef]; exact hN
  have ho : ovr f' (zR s) n = ovr (zF s) (zR s) n := by rw [ef]; rfl
  have hab : abv f' (zR s) n = abv (zF s) (zR s) n := by rw [ef]; rfl
  have hov := q_over (M := M) (S := S) hf1 A' (hr.ag hag) hT'.toS (by omega) (show n < fMd f' by omega)
  obtain ⟨v8, g1, g2, g3⟩ := q_tell (M := M) (S := S) A' (hr.ag hag) hT' hN' (by omega) (show n < fMd f' by omega) (kd := 1) (n := n)
  rw [ho] at hov g1
  rw [hab] at g3
  refine ⟨v8, hov, g1, ⟨⟨?_, g3, ?_, (ha.ag hag).ag g2, (hs.ag hag).ag g2, (hw.ag hag).ag g2, (hnn.ag hag).ag g2⟩, ?_⟩, g2.1 0 (by decide), g2.2 4 (by decide)⟩
  · have := hf1.ag g2; rw [ef] at this; exact this
  · exact (he.ag hag).ag g2
  · intro k h1 h2
    have h1 : fMd (zF s) ≤ k := h1
    have hne : ¬ k = n := by omega
    rw [g2.2 5 (by decide), g2.2 7 (by decide), h5, hag.2 7 (by decide), if_neg hne]
    exact hz k h1 h2
theorem q_write (h : RA s u) (A : AC (zF s) rk) (h6 : fMd (zF s) ≤ 60) (hT : RT (zF s) (zR s)) (hN : RN (zF s) (zR s)) (hF : FS (zF s)) (x m : Int32) : ∃ v b, n_X3_write (mput M S u) (some M) x m = some (b, mput M S v) ∧ RO (opWrite s x m) b v := by
  have hh := h
  obtain ⟨⟨hf, hr, he, ha, hs, hw, hnn⟩, hz⟩ := h
  simp only [n_X3_write, mg_c, gd_t, q_isFileAt hf h6, bn_s, b2i_0]
  cases hp : fiA (zF s) x with
  | none =>
    refine ⟨ui u 0 1, 0, ?_, ?_⟩
    · simp only [Option.isSome_none, if_true, n_X3_write_b58, mw_0, ob_s, mI_0, ui_1, i_nle0_1, if_false, rt_i, id]
    · simp only [opWrite, hp]; exact RO_fail hh 1 0 (by decide)
  | some n =>
    obtain ⟨n1, rfl, n2, n3⟩ := fiA_some hp h6
    have n60 : n < 60 := by omega
    have h20 := (hF n n1).2
    simp only [Option.isSome_some, Bool.true_eq_false, if_false, q_in, bn_s, b2i_0]
    by_cases hi : isMk m = false
    · refine ⟨ui u 0 2, 0, ?_, ?_⟩
      · have e2 : n_X3_write_b29 (mput M S u) (some M) (nI n) m (some M) = some (0, mput M S (ui u 0 2)) := by
          simp only [n_X3_write_b29, n_X3_write_b58, mw_0, ob_s, mI_0, ui_1, if_true, i_nle0_2, if_false, rt_i, id]
        rw [e2]
        cases h9 : inI m (-3) 99 with
        | false => simp
        | true =>
          have : m = -1 := by simpa [isMk, h9] using hi
          simp [this]
      · simp only [opWrite, hp]; rw [if_pos hi]; exact RO_fail hh 2 0 (by decide)
    · have h9 : inI m (-3) 99 = true := by
        cases z : inI m (-3) 99 with
        | false => simp [isMk, z] at hi
        | true => rfl
      have h10 : ¬ m = -1 := fun e => by subst e; simp [isMk] at hi
      simp only [h9, Bool.true_eq_false, if_false, h10, mR_10, ob_s, ma_7 n60, hf.lk n1, b2i_0, mR_8, ma_5 n60, hf.mm n1, li_20, nI_eqE (show (fMk (zF s) n).length < 2 ^ 31 by omega) (show 20 < 2 ^ 31 by decide)]
      by_cases hc : fLk (zF s) n = true ∨ (fMk (zF s) n).length = 20
      · refine ⟨ui u 0 3, 0, ?_, ?_⟩
        · have e3 : n_X3_write_b53 (mput M S u) (some M) (nI n) m (some M) = some (0, mput M S (ui u 0 3)) := by
            simp only [n_X3_write_b53, n_X3_write_b58, mw_0, ob_s, mI_0, ui_1, if_true, i_nle0_3, if_false, rt_i, id]
          rw [e3]
          rcases hc with hc | hc
          · simp [hc]
          · simp [hc]
        · simp only [opWrite, hp]; rw [if_neg hi, if_pos hc]; exact RO_fail hh 3 0 (by decide)
      · have hc1 : fLk (zF s) n = false := by simpa using fun z => hc (Or.inl z)
        have hc2 : ¬ (fMk (zF s) n).length = 20 := fun z => hc (Or.inr z)
        simp only [hc1, if_true, hc2, if_false]
        simp only [opWrite, hp]
        rw [if_neg hi, if_neg hc]
        obtain ⟨L, eL⟩ : ∃ L, L = (fMk (zF s) n).length := ⟨_, rfl⟩
        have hL : L < 20 := by omega
        obtain ⟨v0, z0⟩ : ∃ x, x = ui u 0 0 := ⟨_, rfl⟩
        obtain ⟨v1, z1⟩ : ∃ x, x = ua v0 6 (20 * n + L) m := ⟨_, rfl⟩
        obtain ⟨v2, z2⟩ : ∃ x, x = ua v1 5 n (nI (L + 1)) := ⟨_, rfl⟩
        obtain ⟨v3, z3⟩ : ∃ x, x = ua v2 4 n (nI (fEd (zF s) n + 1)) := ⟨_, rfl⟩
        have t0 := mw_0 (M := M) (S := S) (u := u) (x := 0)
        have t1 := ms_6 (M := M) (S := S) (u := v0) (i := 20 * n + L) (x := m) (by omega)
        have t2 := ms_5 (M := M) (S := S) (u := v1) (x := nI (L + 1)) n60
        have t3 := ms_4 (M := M) (S := S) (u := v2) (x := nI (fEd (zF s) n + 1)) n60
        rw [← z0] at t0
        rw [← z1] at t1
        rw [← z2] at t2
        rw [← z3] at t3
        have hag : Ag [0] [4, 5, 6] u v3 := by
          rw [z3, z2, z1, z0]
          exact Ag_tr (Ag_tr (Ag_tr (Ag_ui u _ (by decide)) (Ag_ua _ _ _ (by decide))) (Ag_ua _ _ _ (by decide))) (Ag_ua _ _ _ (by decide))
        have q4 : ∀ k, k < fMd (zF s) → v3.2 4 k = nI (if k = n then fEd (zF s) n + 1 else fEd (zF s) k) := by
          intro k hk
          rw [z3, ua_2]
          by_cases e : k = n
          · simp [e]
          · simp [e]; rw [z2, z1, z0]; simp only [ua_2, ui_2]; simp; exact hf.ed hk
        have q5 : ∀ k, v3.2 5 k = if k = n then nI (fMk (zF s) n ++ [m]).length else u.2 5 k := by
          intro k
          rw [z3, z2, z1, z0]
          simp only [ua_2, ui_2]
          simp [eL]
        have q7 : ∀ j m', (fMk (zF s) n ++ [m])[j]? = some m' → v3.2 6 (20 * n + j) = m' := by
          intro j m' hj
          rw [z3, z2, z1, z0]
          simp only [ua_2, ui_2]
          simp only [show ((6 : Nat) = 4) = False by decide, show ((6 : Nat) = 5) = False by decide, false_and, if_false, true_and]
          rw [List.getElem?_append] at hj
          split at hj
          · next hlt =>
            rw [if_neg (by omega)]; exact hf.mk n1 hj
          · next hge =>
            have hj2 : j = L := by
              have := (List.getElem?_eq_some_iff.mp hj).1
              simp at this; omega
            subst hj2
            rw [← eL] at hj
            simp at hj
            rw [if_pos rfl, hj]
        have q8 : ∀ k j m', k < fMd (zF s) → k ≠ n → (fMk (zF s) k)[j]? = some m' → v3.2 6 (20 * k + j) = m' := by
          intro k j m' hk hne hj
          have hj2 := (List.getElem?_eq_some_iff.mp hj).1
          have h20' := (hF k hk).2
          rw [z3, z2, z1, z0]
          simp only [ua_2, ui_2]
          simp only [show ((6 : Nat) = 4) = False by decide, show ((6 : Nat) = 5) = False by decide, false_and, if_false, true_and]
          rw [if_neg (by omega)]; exact hf.mk hk hj
        obtain ⟨v8, g1, g2, g3, g4, g5⟩ := q_wrt (M := M) (S := S) hh A h6 hT hN n1 (fMk (zF s) n ++ [m]) hag q4 q5 q7 q8
        refine ⟨v8, nI (fEd (zF s) n + 1), ?_, RO_ok g3 ?_⟩
        · simp only [n_X3_write_b58, t0, ob_s, mI_0]
          rw [show v0.1 0 = 0 by rw [z0, ui_1, if_pos rfl], if_pos i_le00]
          simp only [mR_9, mR_8, ob_s, ma_5 n60]
          rw [show v0.2 5 n = nI L by rw [z0, ui_2, hf.mm n1, eL]]
          simp only [li_20, nI_mul, nI_add, t1, ob_s, mR_8, ma_5 n60]
          rw [show v1.2 5 n = nI L by rw [z1, z0, ua_2, if_neg (by simp), ui_2, hf.mm n1, eL]]
          simp only [nI_1, t2, ob_s, mR_7, ma_4 n60]
          rw [show v2.2 4 n = nI (fEd (zF s) n) by rw [z2, z1, z0]; simp only [ua_2, ui_2]; simp; exact hf.ed n1]
          simp only [nI_1, t3, ob_s, mg_c, gd_t, g1, bn_s, g2, mR_7, ma_4 n60, rt_i, id]
          rw [g5, show v3.2 4 n = nI (fEd (zF s) n + 1) by rw [z3, ua_2, if_pos ⟨rfl, rfl⟩]]
        · rw [g4, z3, z2, z1]
          show v0.1 0 = 0
          rw [z0, ui_1, if_pos rfl]
theorem q_empty (h : RA s u) (A : AC (zF s) rk) (h6 : fMd (zF s) ≤ 60) (hT : RT (zF s) (zR s)) (hN : RN (zF s) (zR s)) (hF : FS (zF s)) (x : Int32) : ∃ v b, n_X3_empty (mput M S u) (some M) x = some (b, mput M S v) ∧ RO (opEmpty s x) b v := by
  have hh := h
  obtain ⟨⟨hf, hr, he, ha, hs, hw, hnn⟩, hz⟩ := h
  simp only [n_X3_empty, mg_c, gd_t, q_isFileAt hf h6, bn_s, b2i_0]
  cases hp : fiA (zF s) x with
  | none =>
    refine ⟨ui u 0 1, 0, ?_, ?_⟩
    · simp only [Option.isSome_none, if_true, n_X3_empty_b27, mw_0, ob_s, mI_0, ui_1, i_nle0_1, if_false, rt_i, id]
    · simp only [opEmpty, hp]; exact RO_fail hh 1 0 (by decide)
  | some n =>
    obtain ⟨n1, rfl, n2, n3⟩ := fiA_some hp h6
    have n60 : n < 60 := by omega
    simp only [Option.isSome_some, Bool.true_eq_false, if_false, mR_10, ob_s, ma_7 n60, hf.lk n1, b2i_0]
    simp only [opEmpty, hp]
    cases hc : fLk (zF s) n with
    | true =>
      refine ⟨ui u 0 2, 0, ?_, ?_⟩
      · simp only [Bool.true_eq_false, if_false, n_X3_empty_b27, mw_0, ob_s, mI_0, ui_1, if_true, i_nle0_2, rt_i, id]
      · exact RO_fail hh 2 0 (by decide)
    | false =>
      simp only [Bool.false_eq_true, if_false, if_true]
      obtain ⟨v0, z0⟩ : ∃ x, x = ui u 0 0 := ⟨_, rfl⟩
      obtain ⟨v2, z2⟩ : ∃ x, x = ua v0 5 n 0 := ⟨_, rfl⟩
      obtain ⟨v3, z3⟩ : ∃ x, x = ua v2 4 n (nI (fEd (zF s) n + 1)) := ⟨_, rfl⟩
      have t0 := mw_0 (M := M) (S := S) (u := u) (x := 0)
      have t2 := ms_5 (M := M) (S := S) (u := v0) (x := 0) n60
      have t3 := ms_4 (M := M) (S := S) (u := v2) (x := nI (fEd (zF s) n + 1)) n60
      rw [← z0] at t0
      rw [← z2] at t2
      rw [← z3] at t3
      have hag : Ag [0] [4, 5, 6] u v3 := by
        rw [z3, z2, z0]
        exact Ag_tr (Ag_tr (Ag_ui u _ (by decide)) (Ag_ua _ _ _ (by decide))) (Ag_ua _ _ _ (by decide))
      have q4 : ∀ k, k < fMd (zF s) → v3.2 4 k = nI (if k = n then fEd (zF s) n + 1 else fEd (zF s) k) := by
        intro k hk
        rw [z3, ua_2]
        by_cases e : k = n
        · simp [e]
        · simp [e]; rw [z2, z0]; simp only [ua_2, ui_2]; simp; exact hf.ed hk
      have q5 : ∀ k, v3.2 5 k = if k = n then nI (([] : List Int32)).length else u.2 5 k := by
        intro k
        rw [z3, z2, z0]
        simp only [ua_2, ui_2]
        simp [nI_0]
      have q7 : ∀ j m', (([] : List Int32))[j]? = some m' → v3.2 6 (20 * n + j) = m' := by
        intro j m' hj; simp at hj
      have q8 : ∀ k j m', k < fMd (zF s) → k ≠ n → (fMk (zF s) k)[j]? = some m' → v3.2 6 (20 * k + j) = m' := by
        intro k j m' hk hne hj
        rw [z3, z2, z0]
        simp only [ua_2, ui_2]
        simp; exact hf.mk hk hj
      obtain ⟨v8, g1, g2, g3, g4, g5⟩ := q_wrt (M := M) (S := S) hh A h6 hT hN n1 [] hag q4 q5 q7 q8
      refine ⟨v8, nI (fMk (zF s) n).length, ?_, RO_ok g3 ?_⟩
      · simp only [n_X3_empty_b27, t0, ob_s, mI_0]
        rw [show v0.1 0 = 0 by rw [z0, ui_1, if_pos rfl], if_pos i_le00]
        simp only [mR_8, ob_s, ma_5 n60]
        rw [show v0.2 5 n = nI (fMk (zF s) n).length by rw [z0, ui_2, hf.mm n1]]
        simp only [t2, ob_s, mR_7, ma_4 n60]
        rw [show v2.2 4 n = nI (fEd (zF s) n) by rw [z2, z0]; simp only [ua_2, ui_2]; simp; exact hf.ed n1]
        simp only [nI_1, t3, ob_s, mg_c, gd_t, g1, bn_s, g2, rt_i, id]
      · rw [g4, z3, z2]
        show v0.1 0 = 0
        rw [z0, ui_1, if_pos rfl]
theorem q_lock (h : RA s u) (h6 : fMd (zF s) ≤ 60) (x : Int32) (b : Bool) : ∃ v r, n_X3_lock (mput M S u) (some M) x (b2i b) = some (r, mput M S v) ∧ RO (opLock s x b) r v := by
  have hh := h
  obtain ⟨⟨hf, hr, he, ha, hs, hw, hnn⟩, hz⟩ := h
  simp only [n_X3_lock, mg_c, gd_t, q_isFileAt hf h6, bn_s, b2i_0]
  cases hp : fiA (zF s) x with
  | none =>
    refine ⟨ui u 0 1, 0, ?_, ?_⟩
    · simp only [Option.isSome_none, if_true, n_X3_lock_b14, mw_0, ob_s, mI_0, ui_1, i_nle0_1, if_false, rt_b0, id, b2i_f]
    · simp only [opLock, hp]; exact RO_fail hh 1 0 (by decide)
  | some n =>
    obtain ⟨n1, rfl, n2, n3⟩ := fiA_some hp h6
    have n60 : n < 60 := by omega
    simp only [Option.isSome_some, Bool.true_eq_false, if_false]
    simp only [opLock, hp]
    obtain ⟨v0, z0⟩ : ∃ x, x = ui u 0 0 := ⟨_, rfl⟩
    obtain ⟨v1, z1⟩ : ∃ x, x = ua v0 7 n (b2i b) := ⟨_, rfl⟩
    have t0 := mw_0 (M := M) (S := S) (u := u) (x := 0)
    have t1 := ms_7 (M := M) (S := S) (u := v0) b n60
    rw [← z0] at t0
    rw [← z1] at t1
    have hag : Ag [0] [7] u v1 := by
      rw [z1, z0]
      exact Ag_tr (Ag_ui u _ (by decide)) (Ag_ua _ _ _ (by decide))
    refine ⟨v1, b2i (fLk (zF s) n), ?_, RO_ok ⟨⟨⟨(hag.1 2 (by decide)).trans hf.1, fun k hk => ?_⟩, hr.ag hag, he.ag hag, ha.ag hag, hs.ag hag, hw.ag hag, hnn.ag hag⟩, fun k h1 h2 => ?_⟩ ?_⟩
    · simp only [n_X3_lock_b14, t0, ob_s, mI_0]
      rw [show v0.1 0 = 0 by rw [z0, ui_1, if_pos rfl], if_pos i_le00]
      simp only [mR_10, ob_s, ma_7 n60]
      rw [show v0.2 7 n = b2i (fLk (zF s) n) by rw [z0, ui_2, hf.lk n1]]
      simp only [t1, ob_s, rt_b, id]
    · have hk : k < fMd (zF s) := hk
      obtain ⟨k0, k1, k2, k3, k4, k5, k6, k7, k8⟩ := hf.2 k hk
      rw [hag.2 0 (by decide), hag.2 1 (by decide), hag.2 2 (by decide), hag.2 3 (by decide), hag.2 4 (by decide), hag.2 5 (by decide), hag.2 6 (by decide), hag.2 8 (by decide)]
      refine ⟨k0, k1, k2, k3, k4, k5, k6, ?_, k8⟩
      rw [z1, z0, ua_2, ui_2]
      show _ = b2i (fu (fLk (zF s)) n b k)
      by_cases e : k = n
      · simp [e, fu_s]
      · simp [e, fu_n _ _ e]; exact k7
    · have h1 : fMd (zF s) ≤ k := h1
      have hne : ¬ k = n := by omega
      rw [hag.2 5 (by decide), z1, z0, ua_2, ui_2, if_neg (by simp [hne])]
      exact hz k h1 h2
    · rw [z1]
      show v0.1 0 = 0
      rw [z0, ui_1, if_pos rfl]
theorem q_people (h : RA s u) (h6 : fMd (zF s) ≤ 60) (x y : Int32) : ∃ v r, n_X3_people (mput M S u) (some M) x y = some (r, mput M S v) ∧ RO (opPeople s x y) r v := by
  have hh := h
  obtain ⟨⟨hf, hr, he, ha, hs, hw, hnn⟩, hz⟩ := h
  simp only [n_X3_people, mg_c, gd_t, q_isNode hf h6, bn_s, b2i_0, q_in]
  cases hp : ndA (zF s) x with
  | none =>
    refine ⟨ui u 0 1, 0, ?_, ?_⟩
    · simp only [Option.isSome_none, if_true, n_X3_people_b28, mw_0, ob_s, mI_0, ui_1, i_nle0_1, if_false, rt_i, id]
    · simp only [opPeople, hp]; exact RO_fail hh 1 0 (by decide)
  | some n =>
    obtain ⟨n1, rfl, n2⟩ := ndA_some hp h6
    have n60 : n < 60 := by omega
    simp only [Option.isSome_some, Bool.true_eq_false, if_false]
    simp only [opPeople, hp]
    cases hi : inI y 0 15 with
    | false =>
      refine ⟨ui u 0 2, 0, ?_, ?_⟩
      · simp only [if_true, n_X3_people_b28, mw_0, ob_s, mI_0, ui_1, i_nle0_2, if_false, rt_i, id]
      · exact RO_fail hh 2 0 (by decide)
    | true =>
      simp only [Bool.true_eq_false, if_false]
      obtain ⟨v0, z0⟩ : ∃ x, x = ui u 0 0 := ⟨_, rfl⟩
      obtain ⟨v1, z1⟩ : ∃ x, x = ua v0 8 n y := ⟨_, rfl⟩
      have t0 := mw_0 (M := M) (S := S) (u := u) (x := 0)
      have t1 := ms_8 (M := M) (S := S) (u := v0) (x := y) n60
      rw [← z0] at t0
      rw [← z1] at t1
      have hag : Ag [0] [8] u v1 := by
        rw [z1, z0]
        exact Ag_tr (Ag_ui u _ (by decide)) (Ag_ua _ _ _ (by decide))
      refine ⟨v1, fPp (zF s) n, ?_, RO_ok ⟨⟨⟨(hag.1 2 (by decide)).trans hf.1, fun k hk => ?_⟩, hr.ag hag, he.ag hag, ha.ag hag, hs.ag hag, hw.ag hag, hnn.ag hag⟩, hz.ag hag⟩ ?_⟩
      · simp only [n_X3_people_b28, t0, ob_s, mI_0]
        rw [show v0.1 0 = 0 by rw [z0, ui_1, if_pos rfl], if_pos i_le00]
        simp only [mR_11, ob_s, ma_8 n60]
        rw [show v0.2 8 n = fPp (zF s) n by rw [z0, ui_2, hf.pp n1]]
        simp only [t1, ob_s, rt_i, id]
      · have hk : k < fMd (zF s) := hk
        obtain ⟨k0, k1, k2, k3, k4, k5, k6, k7, k8⟩ := hf.2 k hk
        rw [hag.2 0 (by decide), hag.2 1 (by decide), hag.2 2 (by decide), hag.2 3 (by decide), hag.2 4 (by decide), hag.2 5 (by decide), hag.2 6 (by decide), hag.2 7 (by decide)]
        refine ⟨k0, k1, k2, k3, k4, k5, k6, k7, ?_⟩
        rw [z1, z0, ua_2, ui_2]
        show _ = fu (fPp (zF s)) n y k
        by_cases e : k = n
        · simp [e, fu_s]
        · simp [e, fu_n _ _ e]; exact k8
      · rw [z1]
        show v0.1 0 = 0
        rw [z0, ui_1, if_pos rfl]
theorem q_mayRead (h : RA s u) (A : AC (zF s) rk) (h6 : fMd (zF s) ≤ 60) (x y : Int32) : ∃ v r, n_X3_mayRead (mput M S u) (some M) x y = some (r, mput M S v) ∧ RO (opMayRead s x y) r v := by
  have hh := h
  obtain ⟨⟨hf, hr, he, ha, hs, hw, hnn⟩, hz⟩ := h
  have e1 : n_X3_mayRead_b22 (mput M S u) (some M) x y (some M) = some (0, mput M S (ui u 0 1)) := by
    simp only [n_X3_mayRead_b22, n_X3_mayRead_b23, mw_0, ob_s, mI_0, ui_1, if_true, show ((1 : Int32) = 0) = False by decide, if_false, rt_b0, id, b2i_f]
  simp only [n_X3_mayRead, q_in, bn_s, b2i_0, mg_c, gd_t, q_isNode hf h6, e1]
  simp only [opMayRead]
  cases hi : inI x 0 3 with
  | false => exact ⟨ui u 0 1, 0, by simp, RO_fail hh 1 0 (by decide)⟩
  | true =>
    simp only [Bool.true_eq_false, if_false]
    cases hp : ndA (zF s) y with
    | none => exact ⟨ui u 0 1, 0, by simp, RO_fail hh 1 0 (by decide)⟩
    | some n =>
      obtain ⟨n1, rfl, n2⟩ := ndA_some hp h6
      have hf0 : RMf (zF s) (ui u 0 0) := hf.ag (Ag_ui (I := [0]) (P := []) u 0 (by decide))
      refine ⟨ui u 0 0, b2i (mrd (zF s) x n), ?_, RO_ok (hh.th 0) rfl⟩
      simp only [Option.isSome_some, Bool.true_eq_false, if_false, n_X3_mayRead_b23, mw_0, ob_s, mI_0, ui_1, if_true, mg_c, gd_t, q_mayReadAt hf0 A h6 n1, bn_s, b2i_0, rt_b0, rt_b1, id]
      cases mrd (zF s) x n <;> rfl
theorem q_nodes (h : RA s u) (h6 : fMd (zF s) ≤ 60) : ∃ v r, n_X3_nodes (mput M S u) (some M) = some (r, mput M S v) ∧ RO (opNodes s) r v := by
  have hh := h
  have hf := h.1.1
  have hf0 : RMf (zF s) (ui u 0 0) := hf.ag (Ag_ui (I := [0]) (P := []) u 0 (by decide))
  have hz : fMd (zF s) < 2 ^ 31 := by omega
  refine ⟨ui u 0 0, nI (cnB (fun k => !fGo (zF s) k) (fMd (zF s))), ?_, RO_ok (hh.th 0) rfl⟩
  simp only [n_X3_nodes, mw_0, ob_s]
  have key := lp_u0 (fun m k => n_X3_nodes_b9 m (mput M S (ui u 0 0)) (some M) (nI (cnB (fun k => !fGo (zF s) k) k)) (nI k)) (fMd (zF s)) (some (nI (cnB (fun k => !fGo (zF s) k) (fMd (zF s))), mput M S (ui u 0 0))) ?_ ?_ (m := FU) (by simp only [FU]; omega)
  · simp only [cnB, nI_0] at key
    exact key
  · intro m k hk
    simp only [n_X3_nodes_b9, n_X3_nodes_b32, mI_2, ob_s, hf0.1, nI_leE hz (show k < 2 ^ 31 by omega), mR_3, ma_0 (show k < 60 by omega), hf0.go hk, b2i_0, nI_1, cnB]
    rw [if_neg (by omega)]
    rcases Bool.eq_false_or_eq_true (fGo (zF s) k) with hb | hb <;> simp [hb]
  · intro m
    simp only [n_X3_nodes_b9, mI_2, ob_s, hf0.1, nI_leE hz hz, Nat.le_refl, if_true, rt_i, id]
end
