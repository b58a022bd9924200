/-! the reference's questions -/
section
variable {M : Nat} {S : St} {u v w : MM} {f f' : Fl} {rs rs' : List RtV} {en : En} {ac : List AcV} {s : Sg} {rk rk' : Nat → Nat} {l : List Int32} {x y : Int32} {n : Nat}
theorem q_areWords (x y : Int32) : n_X3_areWords (mput M S u) (some M) x y = some (b2i (okW x y), mput M S u) := by
  simp only [n_X3_areWords, q_in, bn_s, b2i_0, okW]
  rcases Bool.eq_false_or_eq_true (inI x 0 99) with b1 | b1 <;> rcases Bool.eq_false_or_eq_true (inI y (-1) 99) with b2 | b2 <;> simp [b1, b2, rt_b0, rt_b1]
theorem q_canAsk (hmd : u.1 2 = nI (fMd (zF s))) (p x y z : Int32) : n_X3_canAsk (mput M S u) (some M) p x y z = some (b2i (askC s p x y z == 0), mput M S (ui u 0 (askC s p x y z))) := by
  have h55 : ∀ c : Int32, n_X3_canAsk_b55 (mput M S u) (some M) c (some M) = some (b2i (c == 0), mput M S (ui u 0 c)) := by
    intro c
    simp only [n_X3_canAsk_b55, mw_0, ob_s, mI_0, ui_1, if_true]
    by_cases e : c = 0
    · simp [e, rt_b1]
    · simp [e, rt_b0, beq_false_of_ne e]
  simp only [n_X3_canAsk, n_X3_canAsk_b28, n_X3_canAsk_b29, mg_c, gd_t, q_in, bn_s, b2i_0, mI_2, ob_s, hmd, q_areWords, if_true, h55, show ((1 : Int32) = 0) = False by simp, if_false, askC]
  rcases Bool.eq_false_or_eq_true (inI p 0 3) with b1 | b1 <;> rcases Bool.eq_false_or_eq_true (inI z (-1) (nI (fMd (zF s)) - 1)) with b2 | b2 <;> rcases Bool.eq_false_or_eq_true (okW x y) with b3 | b3 <;> simp [b1, b2, b3]
theorem foO_in (h6 : fMd (zF s) ≤ 60) {p x y z : Int32} (h : askC s p x y z = 0) : z = prI (foO z) ∧ ∀ a, foO z = some a → a < fMd (zF s) := by
  have hz : inI z (-1) (nI (fMd (zF s)) - 1) = true := by
    unfold askC at h
    split at h
    · next c => exact c.2
    · simp at h
  unfold foO
  by_cases e : z = -1
  · simp [e, prI]
  · rw [if_neg e]
    rcases inI_cases h6 z with ⟨k, hk, rfl, -⟩ | ⟨hi, hno⟩
    · rw [nI_clamp (by omega)]
      exact ⟨rfl, fun a ha => by cases ha; exact hk⟩
    · exfalso
      simp only [inI, Bool.and_eq_true, Bool.not_eq_true', decide_eq_false_iff_not] at hz
      have h0 : ¬ z < 0 := fun hlt => by
        have h1 := Int32.lt_iff_toInt_lt.mp hlt
        have h2 := Int32.le_iff_toInt_le.mp (Int32.not_lt.mp hz.1)
        have e1 : (-1 : Int32).toInt = -1 := by decide
        rw [e1] at h2
        simp only [Int32.toInt_zero] at h1
        refine e (Int32.toInt_inj.mp ?_)
        rw [e1]; omega
      have : inI z 0 (nI (fMd (zF s)) - 1) = true := by
        simp only [inI, Bool.and_eq_true, Bool.not_eq_true', decide_eq_false_iff_not]
        exact ⟨h0, hz.2⟩
      rw [hi] at this; cases this
theorem askC_no {p x y z : Int32} (h : ¬ askC s p x y z = 0) (hs : RA s u) (b : Int32) : RO (askC s p x y z, 0, s) b (ui u 0 (askC s p x y z)) := RO_fail hs _ b h
theorem q_answers (hI : IW s rk) (hs : RA s u) (p x y z : Int32) : ∃ v b, n_X3_answers (mput M S u) (some M) p x y z = some (b, mput M S v) ∧ RO (opAnswers s p x y z) b v := by
  have h6 := hI.2.1
  have hmd := hs.1.1.1
  simp only [n_X3_answers, mg_c, gd_t, q_canAsk hmd, bn_s, opAnswers]
  obtain ⟨v, ev⟩ : ∃ v, v = ui u 0 (askC s p x y z) := ⟨_, rfl⟩
  have hs1 : RA s v := by rw [ev]; exact hs.th _
  rw [← ev]
  have hmd1 := hs1.1.1.1
  by_cases c : askC s p x y z = 0
  · rw [if_pos c]
    obtain ⟨z1, z2⟩ := foO_in h6 c
    refine ⟨v, nI (cnB (isAn s p x y (foO z)) (fMd (zF s))), ?_, RO_ok hs1 (by rw [ev, ui_1, if_pos rfl, c])⟩
    have key := lp_u0 (fun m k => n_X3_answers_b17 m (mput M S v) (some M) p x y z (b2i (askC s p x y z == 0)) (nI (cnB (isAn s p x y (foO z)) k)) (nI k)) (fMd (zF s)) (some (nI (cnB (isAn s p x y (foO z)) (fMd (zF s))), mput M S v)) ?_ ?_ (m := FU) (by simp only [FU]; omega)
    · simp only [cnB, nI_0] at key
      exact key
    · intro m k hk
      have : ((b2i (askC s p x y z == 0)) = 0) = False := by rw [c]; simp [b2i]
      simp only [n_X3_answers_b17, n_X3_answers_b52, mI_2, ob_s, hmd1, nI_leE (show fMd (zF s) < 2 ^ 31 by omega) (show k < 2 ^ 31 by omega), this, if_false, mg_c, gd_t, q_isAnswer hI hs1 hk p x y z1 z2, bn_s, nI_1, cnB]
      rw [if_neg (by omega)]
      rcases Bool.eq_false_or_eq_true (isAn s p x y (foO z) k) with b | b <;> simp [b, b2i]
    · intro m
      simp only [n_X3_answers_b17, mI_2, ob_s, hmd1, nI_leE (show fMd (zF s) < 2 ^ 31 by omega) (show fMd (zF s) < 2 ^ 31 by omega), Nat.le_refl, if_true, rt_i, id]
  · rw [if_neg c]
    refine ⟨v, 0, ?_, by rw [ev]; exact askC_no c hs 0⟩
    obtain ⟨m, hFU⟩ : ∃ m, FU = m + 1 := ⟨99999, rfl⟩
    rw [hFU]
    have : ((b2i (askC s p x y z == 0)) = 0) = True := by rw [beq_false_of_ne c]; simp [b2i]
    simp only [n_X3_answers_b17, mI_2, ob_s, this, if_true, rt_i, id, ite_self]
theorem rk_range {n i : Nat} {p : Nat → Bool} (h : ∀ j, j < i → p j = false) (hi : i < n) (hp : p i = true) : (List.range n).find? p = some i := by
  rw [List.find?_range_eq_some]
  exact ⟨hp, List.mem_range.mpr hi, fun j hj => by rw [h j hj]; rfl⟩
theorem scr_le (l : List Int32) (x y : Int32) : scr l x y ≤ 2 * l.length + 10 := by
  have l1 := ofn_le l x
  have l2 := ofn_le l y
  unfold scr
  split <;> split <;> omega
theorem isAn_wd (hI : IW s rk) (hs : RA s u) {p : Int32} {fo : Option Nat} (h : isAn s p x y fo n = true) : WDp n (eWd (zE s) n) u := by
  simp only [isAn, Bool.and_eq_true, Bool.not_eq_true'] at h
  obtain ⟨⟨⟨-, ⟨h1, h2⟩, -⟩, -⟩, -⟩ := h
  cases hen : zE s n with
  | none => rw [hen] at h1; cases h1
  | some e =>
    have := hs.1.2.2.1.wd hI.2.2.2.2.2.1 hI.2.1 hen h2
    simpa [eWd, hen] using this
theorem q_answer (hI : IW s rk) (hs : RA s u) (p x y pl : Int32) : ∃ v b, n_X3_answer (mput M S u) (some M) p x y pl = some (b, mput M S v) ∧ RO (opAnswer s p x y pl) b v := by
  have h6 := hI.2.1
  have hmz : fMd (zF s) < 2 ^ 31 := by omega
  simp only [n_X3_answer, mg_c, gd_t, q_in, bn_s, b2i_0, q_areWords, q_fails, rt_i, id, opAnswer]
  rcases Bool.eq_false_or_eq_true (inI p 0 3) with b1 | b1
  · rcases Bool.eq_false_or_eq_true (okW x y) with b2 | b2
    · simp only [b1, b2, Bool.true_eq_false, if_false, mg_c, gd_t, q_areWords, bn_s, b2i_0]
      obtain ⟨v, ev⟩ : ∃ v, v = ui u 0 0 := ⟨_, rfl⟩
      have t0 := mw_0 (M := M) (S := S) (u := u) (x := 0)
      rw [← ev] at t0
      have hs1 : RA s v := by rw [ev]; exact hs.th _
      have hv0 : v.1 0 = 0 := by rw [ev, ui_1, if_pos rfl]
      have hmd1 := hs1.1.1.1
      have hn1 : (-1 : Int32) = prI none := rfl
      have hn2 : ∀ a, (none : Option Nat) = some a → a < fMd (zF s) := fun a h => by cases h
      have hstart : n_X3_answer_b30 (mput M S u) (some M) p x y pl 0 (some M) = n_X3_answer_b45 FU (mput M S v) (some M) p x y pl (nI 0) := by
        simp only [n_X3_answer_b30, t0, ob_s, mI_0, hv0, i_le00, if_true, nI_0]
      rw [hstart]
      obtain ⟨P, eP⟩ : ∃ P : Nat → Bool, P = fun k => isAn s p x y none k && nI (rnk s p x y k) == pl := ⟨_, rfl⟩
      have eP' : (fun k => isAn s p x y none k && nI (rnk s p x y k) == pl) = P := eP.symm
      simp only [eP']
      -- how many are better
      have inner : ∀ (k45 : St → Option Nat → Int32 → Int32 → Int32 → Int32 → Int32 → Option (Int32 × St)) (k : Nat), k < fMd (zF s) → isAn s p x y none k = true → n_X3_answer_b83 k45 FU (mput M S v) (some M) p x y pl (nI k) 0 (nI (sck s x y k)) 0 = if nI (rnk s p x y k) = pl then some (nI (100 * sck s x y k + k), mput M S v) else k45 (mput M S v) (some M) p x y pl (nI (k + 1)) := by
        intro k45 k hk hak
        have key := lp_u0 (fun m b => n_X3_answer_b83 k45 m (mput M S v) (some M) p x y pl (nI k) (nI (cnB (fun b => !(b == k) && isAn s p x y none b && (decide (sck s x y k < sck s x y b) || (sck s x y b == sck s x y k && decide (b < k)))) b)) (nI (sck s x y k)) (nI b)) (fMd (zF s)) (if nI (rnk s p x y k) = pl then some (nI (100 * sck s x y k + k), mput M S v) else k45 (mput M S v) (some M) p x y pl (nI (k + 1))) ?_ ?_ (m := FU) (by simp only [FU]; omega)
        · simp only [cnB, nI_0] at key
          exact key
        · intro m b hb
          have b60 : b < 60 := by omega
          have hsk : ∀ j, isAn s p x y none j = true → sck s x y j < 2 ^ 31 := fun j hj => by
            have h1 := (isAn_wd hI hs1 hj).1
            have h2 := scr_le (eWd (zE s) j) x y
            unfold sck; omega
          have h163 : ∀ (c : Nat), n_X3_answer_b163 k45 (n_X3_answer_b83 k45 m) (mput M S v) (some M) p x y pl (nI k) (nI (sck s x y k)) (nI b) (nI c) = n_X3_answer_b83 k45 m (mput M S v) (some M) p x y pl (nI k) (nI c) (nI (sck s x y k)) (nI (b + 1)) := fun c => by
            simp only [n_X3_answer_b163, n_X3_answer_b164, nI_1, Int32.add_zero]
          have h159 : ∀ (c : Nat), n_X3_answer_b159 k45 (n_X3_answer_b83 k45 m) (mput M S v) (some M) p x y pl (nI k) (nI (sck s x y k)) (nI b) (nI c) = n_X3_answer_b83 k45 m (mput M S v) (some M) p x y pl (nI k) (nI (c + 1)) (nI (sck s x y k)) (nI (b + 1)) := fun c => by
            simp only [n_X3_answer_b159, n_X3_answer_b164, nI_1]
          simp only [n_X3_answer_b83, n_X3_answer_b116, n_X3_answer_b117, mI_2, ob_s, hmd1, nI_leE hmz (show b < 2 ^ 31 by omega), nI_leE (show k < 2 ^ 31 by omega) (show b < 2 ^ 31 by omega), nI_eqE (show b < 2 ^ 31 by omega) (show k < 2 ^ 31 by omega), if_true, h163, h159, mg_c, gd_t, q_isAnswer hI hs1 hb p x y hn1 hn2, bn_s, b2i_0, show ((1 : Int32) = 0) = False by simp, if_false, cnB]
          rw [if_neg (by omega)]
          by_cases e : b = k
          · simp [e]
          · simp only [e, if_false, beq_false_of_ne e, Bool.not_false, Bool.true_and]
            rcases Bool.eq_false_or_eq_true (isAn s p x y none b) with c | c
            · have hw := isAn_wd hI hs1 c
              have hq := q_score (M := M) (S := S) hw b60 x y
              have hbz := hsk b c
              have hkz := hsk k hak
              simp only [c, Bool.true_eq_false, if_false, hq, bn_s, mg_c, gd_t, show scr (eWd (zE s) b) x y = sck s x y b from rfl, nI_ltE hkz hbz, nI_eqE hbz hkz]
              by_cases d1 : sck s x y k < sck s x y b
              · simp [d1, h159]
              · by_cases d2 : sck s x y b = sck s x y k
                · by_cases d3 : k ≤ b
                  · have : ¬ b < k := by omega
                    simp [d1, d2, d3, this, h163, mg_c, gd_t, hq, bn_s, show scr (eWd (zE s) b) x y = sck s x y b from rfl]
                  · have : b < k := by omega
                    simp [d1, d2, d3, this, h159, mg_c, gd_t, hq, bn_s, show scr (eWd (zE s) b) x y = sck s x y b from rfl]
                · simp [d1, h163, mg_c, gd_t, hq, bn_s, show scr (eWd (zE s) b) x y = sck s x y b from rfl, nI_eqE hbz hkz, d2]
            · simp [c]
        · intro m
          simp only [n_X3_answer_b83, n_X3_answer_b189, mI_2, ob_s, hmd1, nI_leE hmz hmz, Nat.le_refl, if_true, rt_i, id, nI_1, li_100, nI_mul, nI_add]
          rfl
      -- from one to the next
      obtain ⟨res, eres⟩ : ∃ res, res = (List.range (fMd (zF s))).find? P := ⟨_, rfl⟩
      obtain ⟨rr, err⟩ : ∃ rr : Option (Int32 × St), rr = res.elim (some (0, mput M S (ui v 0 1))) (fun k => some (nI (100 * sck s x y k + k), mput M S v)) := ⟨_, rfl⟩
      have key := lp_up (fun m k => n_X3_answer_b45 m (mput M S v) (some M) p x y pl (nI k)) (fMd (zF s)) rr (fun k => ∀ j, j < k → P j = false) ?_ ?_ FU 0 (Nat.zero_le _) (by simp only [FU]; omega) (fun j hj => by omega)
      · rw [← eres]
        cases hres : res with
        | none =>
          simp only [hres, Option.elim] at err
          rw [err] at key
          refine ⟨ui v 0 1, 0, key, ?_⟩
          simp only [Bool.true_eq_false, if_false]
          exact RO_fail hs1 1 0 (by decide)
        | some k =>
          simp only [hres, Option.elim] at err
          rw [err] at key
          exact ⟨v, _, key, RO_ok hs1 hv0⟩
      · intro m k hk hP
        have k60 : k < 60 := by omega
        simp only [n_X3_answer_b45, n_X3_answer_b189, mI_2, ob_s, hmd1, nI_leE hmz (show k < 2 ^ 31 by omega), mg_c, gd_t, q_isAnswer hI hs1 hk p x y hn1 hn2, bn_s, b2i_0, nI_1]
        rw [if_neg (by omega)]
        rcases Bool.eq_false_or_eq_true (isAn s p x y none k) with c | c
        · have hw := isAn_wd hI hs1 c
          have hq := q_score (M := M) (S := S) hw k60 x y
          simp only [c, Bool.true_eq_false, if_false, hq, bn_s, mg_c, gd_t, show scr (eWd (zE s) k) x y = sck s x y k from rfl]
          rw [inner _ k hk c]
          by_cases d : nI (rnk s p x y k) = pl
          · refine Or.inr ?_
            have hpk : P k = true := by rw [eP]; simp [c, d]
            have hrs : res = some k := by rw [eres]; exact rk_range hP hk hpk
            simp only [hrs, Option.elim] at err
            rw [if_pos d, err]
          · refine Or.inl ⟨fun j hj => ?_, by rw [if_neg d]⟩
            by_cases e : j = k
            · rw [e, eP]; simp [d]
            · exact hP j (by omega)
        · refine Or.inl ⟨fun j hj => ?_, by simp [c]⟩
          by_cases e : j = k
          · rw [e, eP]; simp [c]
          · exact hP j (by omega)
      · intro m hP
        have hres : res = none := by
          rw [eres, List.find?_range_eq_none]
          intro j hj; rw [hP j hj]; rfl
        simp only [n_X3_answer_b45, mI_2, ob_s, hmd1, nI_leE hmz hmz, Nat.le_refl, if_true, mg_c, gd_t, q_fails, bn_s, rt_i, id]
        simp only [hres, Option.elim] at err
        rw [err]
    · simp only [b1, b2, Bool.true_eq_false, if_false, mg_c, gd_t, q_areWords, bn_s, b2i_0, if_true]
      refine ⟨ui u 0 2, 0, ?_, RO_fail hs 2 0 (by decide)⟩
      simp only [n_X3_answer_b30, mw_0, ob_s, mI_0, ui_1, if_true, i_nle0_2, if_false, rt_i, id]
  · simp only [b1, if_true]
    exact ⟨ui u 0 1, 0, rfl, RO_fail hs 1 0 (by decide)⟩
end
