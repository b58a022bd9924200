/-! the reference's work: words; entries that go -/
section
variable {M : Nat} {S : St} {u v w : MM} {f f' : Fl} {rs rs' : List RtV} {en : En} {ac : List AcV} {s : Sg} {rk rk' : Nat → Nat}
theorem opn_le : ∀ l : List Int32, opn l ≤ l.length := by
  intro l
  induction l with
  | nil => exact Nat.le_refl _
  | cons m l ih =>
    simp only [opn, List.length_cons]
    split
    · omega
    · split <;> omega
theorem cutL_le : ∀ l : List Int32, cutL l ≤ l.length := by
  intro l
  induction l with
  | nil => exact Nat.le_refl _
  | cons m l ih =>
    simp only [cutL, List.length_cons]
    split <;> omega
theorem cutL_end {dl most : Int32} : ∀ (l : List Int32) (d c : Nat), tkW dl most (l.drop (cutL l)) d c = [] := by
  intro l
  induction l with
  | nil => intro d c; rfl
  | cons m l ih =>
    intro d c
    simp only [cutL]
    split
    · next h => simp only [List.drop_zero, tkW, h.1, if_true, h.2]
    · simp only [List.drop_succ_cons]; exact ih d c
theorem tkW_len {dl most : Int32} : ∀ (l : List Int32) (d c : Nat), (tkW dl most l d c).length ≤ l.length := by
  intro l
  induction l with
  | nil => intro d c; exact Nat.le_refl _
  | cons m l ih =>
    intro d c
    simp only [tkW, List.length_cons]
    split
    · split
      · simp
      · have := ih (d + 1) c; omega
    · split
      · have := ih (d - 1) c; omega
      · split
        · have := ih d c; omega
        · have := ih d (c + 1); simp; omega
def TKp (M : Nat) (u : MM) (W : List Int32) (v : MM) : Prop := Ag [44] [32] u v ∧ v.1 44 = nI W.length ∧ (∀ j x, W[j]? = some x → v.2 32 j = x) ∧ W.length ≤ 20
theorem q_takesWords {nm : Nm} (hf : RMf f u) (hn : RMn nm u) (hF : FS f) (h6 : fMd f ≤ 60) {n : Nat} (hn1 : n < fMd f) : ∃ v, n_X3_takesWords (mput M S u) (some M) (nI n) = some ((), mput M S v) ∧ TKp M u (takW nm (fMk f n)) v := by
  have n60 : n < 60 := by omega
  obtain ⟨ms, em⟩ : ∃ ms, ms = fMk f n := ⟨_, rfl⟩
  have h20 : ms.length ≤ 20 := by rw [em]; exact (hF n hn1).2
  have hmk : ∀ {w : MM}, Ag [44] [32] u w → ∀ j (hj : j < ms.length), w.2 6 (20 * n + j) = ms[j] := fun {w} hw j hj => by
    rw [hw.2 6 (by decide)]
    exact hf.mk hn1 (by rw [← em]; exact List.getElem?_eq_getElem hj)
  rw [← em]
  obtain ⟨E, eE⟩ : ∃ E, E = cutL ms := ⟨_, rfl⟩
  have hE : E ≤ ms.length := by rw [eE]; exact cutL_le ms
  -- the walk from the first
  have k2 : ∃ v, TKp M u (takW nm ms) v ∧ n_X3_takesWords_b103 FU (mput M S (ui u 44 0)) (some M) (nI n) (nI E) (nI 0) (nI 0) = some ((), mput M S v) := by
    have key := lp_st (fun m k (c : MM × Nat × List Int32) => n_X3_takesWords_b103 m (mput M S c.1) (some M) (nI n) (nI E) (nI c.2.1) (nI k)) (fun v => some ((), mput M S v)) (fun k c => TKp M u c.2.2 c.1 ∧ c.2.1 ≤ k ∧ c.2.2.length ≤ k ∧ c.2.2 ++ tkW nm.2.2.2.2.1 nm.2.2.2.2.2 (ms.drop k) c.2.1 c.2.2.length = takW nm ms) (fun v => TKp M u (takW nm ms) v) E ?_ ?_ FU 0 (ui u 44 0, 0, []) (Nat.zero_le _) (by simp only [FU]; omega) ⟨⟨Ag_ui u _ (by decide), by rw [ui_1, if_pos rfl]; rfl, fun j x hj => by simp at hj, by simp⟩, Nat.le_refl _, Nat.le_refl _, by simp [takW]⟩
    · exact key
    · intro m k ⟨w, d, T⟩ hk ⟨⟨g1, g2, g3, g4⟩, h1, h2, h3⟩
      simp only at g1 g2 g3 g4 h1 h2 h3
      have hkl : k < ms.length := by omega
      obtain ⟨x, ex⟩ : ∃ x, x = ms[k] := ⟨_, rfl⟩
      have hw6 : w.2 6 (20 * n + k) = x := by rw [ex]; exact hmk g1 k hkl
      rw [List.drop_eq_getElem_cons hkl, ← ex] at h3
      have hopn : ¬ (x = -2 ∧ opn (ms.drop (k + 1)) = 0) := by
        -- not cut yet
        intro z
        have : ∀ (l : List Int32) (i : Nat), (hi : i < cutL l) → (hl : i < l.length) → ¬ (l[i] = -2 ∧ opn (l.drop (i + 1)) = 0) := by
          intro l
          induction l with
          | nil => intro i hi _; simp [cutL] at hi
          | cons m l ih =>
            intro i hi hl
            simp only [cutL] at hi
            split at hi
            · omega
            · next hc =>
              cases i with
              | zero => simpa using hc
              | succ i => simpa using ih i (by omega) (by simpa using hl)
        exact this ms k (by omega) hkl (by rw [← ex]; exact z)
      have hdl : w.1 28 = nm.2.2.2.2.1 := by rw [g1.1 28 (by decide)]; exact hn.2.2.2.2.1
      have hmo : w.1 29 = nm.2.2.2.2.2 := by rw [g1.1 29 (by decide)]; exact hn.2.2.2.2.2
      have h199 : ∀ (w' : MM) (y : Int32) (d' : Nat), nI d + y = nI d' → n_X3_takesWords_b199 (n_X3_takesWords_b103 m) (mput M S w') (some M) (nI n) (nI E) (nI k) y (nI d) = n_X3_takesWords_b103 m (mput M S w') (some M) (nI n) (nI E) (nI d') (nI (k + 1)) := fun w' y d' hd => by
        simp only [n_X3_takesWords_b199, nI_1, hd]
      have h198 : ∀ (w' : MM), n_X3_takesWords_b198 (n_X3_takesWords_b103 m) (mput M S w') (some M) (nI n) (nI E) (nI k) (nI d) = n_X3_takesWords_b103 m (mput M S w') (some M) (nI n) (nI E) (nI d) (nI (k + 1)) := fun w' => h199 w' 0 d (Int32.add_zero _)
      have h169 : ∀ (w' : MM), n_X3_takesWords_b169 (n_X3_takesWords_b103 m) (mput M S w') (some M) (nI n) (nI E) (nI d) (nI k) x = n_X3_takesWords_b103 m (mput M S w') (some M) (nI n) (nI E) (nI (if x = -2 then d + 1 else if x = -3 then d - 1 else d)) (nI (k + 1)) := by
        intro w'
        simp only [n_X3_takesWords_b169, h198, nI_le0 (show d < 2 ^ 31 by omega)]
        by_cases c1 : x = -2
        · rw [if_pos c1, if_pos c1]; exact h199 w' 1 (d + 1) (nI_1 d)
        · rw [if_neg c1, if_neg c1]
          by_cases c2 : x = -3
          · rw [if_pos c2, if_pos c2]
            by_cases c3 : d = 0
            · rw [if_pos c3, c3]
            · rw [if_neg c3]
              obtain ⟨d', rfl⟩ : ∃ d', d = d' + 1 := ⟨d - 1, by omega⟩
              exact h199 w' (-1) d' (nI_m1 d')
          · rw [if_neg c2, if_neg c2]
      have hd' : (if x = -2 then d + 1 else if x = -3 then d - 1 else d) ≤ k + 1 := by
        split
        · omega
        · split <;> omega
      have hstart : n_X3_takesWords_b103 (m + 1) (mput M S w) (some M) (nI n) (nI E) (nI d) (nI k) = if x < 0 then n_X3_takesWords_b169 (n_X3_takesWords_b103 m) (mput M S w) (some M) (nI n) (nI E) (nI d) (nI k) x else if nm.2.2.2.2.1 < nI d then n_X3_takesWords_b169 (n_X3_takesWords_b103 m) (mput M S w) (some M) (nI n) (nI E) (nI d) (nI k) x else if nm.2.2.2.2.2 ≤ nI T.length then n_X3_takesWords_b169 (n_X3_takesWords_b103 m) (mput M S w) (some M) (nI n) (nI E) (nI d) (nI k) x else n_X3_takesWords_b169 (n_X3_takesWords_b103 m) (mput M S (ui (ua w 32 T.length x) 44 (nI (T.length + 1)))) (some M) (nI n) (nI E) (nI d) (nI k) x := by
        have t1 := ms_32 (M := M) (S := S) (u := w) (i := T.length) (x := x) (by omega)
        have t2 := mw_44 (M := M) (S := S) (u := ua w 32 T.length x) (x := nI (T.length + 1))
        simp only [n_X3_takesWords_b103, nI_leE (show E < 2 ^ 31 by omega) (show k < 2 ^ 31 by omega), mR_9, ob_s, li_20, nI_mul, nI_add, ma_6 (show 20 * n + k < 1200 by omega), hw6, mI_28, hdl, mI_44, mI_29, hmo, g2, mR_45, t1, ua_1, nI_1, t2]
        rw [if_neg (by omega)]
      by_cases ct : x < 0 ∨ nm.2.2.2.2.1 < nI d ∨ nm.2.2.2.2.2 ≤ nI T.length
      · refine ⟨(w, (if x = -2 then d + 1 else if x = -3 then d - 1 else d), T), ⟨⟨g1, g2, g3, g4⟩, hd', show T.length ≤ k + 1 by omega, ?_⟩, ?_⟩
        · rw [← h3]
          simp only [tkW]
          by_cases c1 : x = -2
          · have : ¬ opn (ms.drop (k + 1)) = 0 := fun z => hopn ⟨c1, z⟩
            simp only [if_pos c1, if_neg this]
          · by_cases c2 : x = -3
            · simp only [if_neg c1, if_pos c2]
            · simp only [if_neg c1, if_neg c2, if_pos ct]
        · show n_X3_takesWords_b103 (m + 1) (mput M S w) (some M) (nI n) (nI E) (nI d) (nI k) = _
          rw [hstart, h169]
          rcases ct with ct | ct | ct
          · rw [if_pos ct]
          · split <;> first | rfl | (rw [if_pos ct])
          · split
            · rfl
            · split <;> first | rfl | (rw [if_pos ct])
      · have c0 : ¬ x < 0 := fun z => ct (Or.inl z)
        have c1 : ¬ x = -2 := fun z => c0 (by rw [z]; decide)
        have c2 : ¬ x = -3 := fun z => c0 (by rw [z]; decide)
        refine ⟨(ui (ua w 32 T.length x) 44 (nI (T.length + 1)), d, T ++ [x]), ⟨⟨Ag_tr (Ag_tr g1 (Ag_ua _ _ _ (by decide))) (Ag_ui _ _ (by decide)), by rw [ui_1, if_pos rfl]; simp, fun j y hj => ?_, by simp; omega⟩, show d ≤ k + 1 by omega, by simp; omega, ?_⟩, ?_⟩
        · rw [ui_2, ua_2]
          rw [List.getElem?_append] at hj
          split at hj
          · next hlt => rw [if_neg (by simp; omega)]; exact g3 j y hj
          · next hge =>
            have hj2 : j = T.length := by
              have := (List.getElem?_eq_some_iff.mp hj).1
              simp at this; omega
            subst hj2
            simp at hj
            rw [if_pos ⟨rfl, rfl⟩, hj]
        · rw [← h3]
          simp only [tkW, if_neg c1, if_neg c2, if_neg ct, List.append_assoc, List.singleton_append, List.length_append, List.length_singleton]
        · show n_X3_takesWords_b103 (m + 1) (mput M S w) (some M) (nI n) (nI E) (nI d) (nI k) = _
          rw [hstart, h169, h169, if_neg c0, if_neg (fun z => ct (Or.inr (Or.inl z))), if_neg (fun z => ct (Or.inr (Or.inr z))), if_neg c1, if_neg c2]
    · intro m ⟨w, d, T⟩ ⟨h0, h1, h2, h3⟩
      simp only at h0 h1 h2 h3
      rw [eE, cutL_end, List.append_nil] at h3
      refine ⟨w, h3 ▸ h0, ?_⟩
      simp only [n_X3_takesWords_b103, nI_leE (show E < 2 ^ 31 by omega) (show E < 2 ^ 31 by omega), Nat.le_refl, if_true]
  obtain ⟨v, k2, k3⟩ := k2
  refine ⟨v, ?_, k2⟩
  have hm5 : u.2 5 n = nI ms.length := by rw [em]; exact hf.mm hn1
  simp only [n_X3_takesWords, mR_8, ob_s, ma_5 n60, hm5]
  rw [nI_0] at k3
  have key := lp_db (fun m k => n_X3_takesWords_b19 m (mput M S u) (some M) (nI n) (nI (opn (ms.drop k))) (nI (k + cutL (ms.drop k))) (nI k - 1)) (some ((), mput M S v)) ms.length ?_ ?_ FU ms.length (Nat.le_refl _) (by simp only [FU]; omega)
  · simp only [List.drop_length, opn, cutL, nI_0, Nat.add_zero] at key
    exact key
  · intro m k hkl
    obtain ⟨x, ex⟩ : ∃ x, x = ms[k] := ⟨_, rfl⟩
    have hw6 : u.2 6 (20 * n + k) = x := by rw [ex]; exact hmk (Ag_rf _ _ _) k hkl
    have ho := opn_le (ms.drop (k + 1))
    have hc := cutL_le (ms.drop (k + 1))
    rw [List.length_drop] at ho hc
    have ed : ms.drop k = x :: ms.drop (k + 1) := by rw [ex]; exact List.drop_eq_getElem_cons hkl
    rw [ed]
    obtain ⟨o, eo⟩ : ∃ o, o = opn (ms.drop (k + 1)) := ⟨_, rfl⟩
    obtain ⟨c, ec⟩ : ∃ c, c = cutL (ms.drop (k + 1)) := ⟨_, rfl⟩
    simp only [opn, cutL]
    rw [← eo] at ho ⊢
    rw [← ec] at hc ⊢
    have h84 : ∀ (y : Int32) (e : Nat) (o' : Nat), nI o + y = nI o' → n_X3_takesWords_b84 (n_X3_takesWords_b19 m) (mput M S u) (some M) (nI n) (nI e) (nI k) y (nI o) = n_X3_takesWords_b19 m (mput M S u) (some M) (nI n) (nI o') (nI e) (nI k - 1) := fun y e o' h => by
      simp only [n_X3_takesWords_b84, h, i_addm1]
    have h83 : ∀ (e : Nat), n_X3_takesWords_b83 (n_X3_takesWords_b19 m) (mput M S u) (some M) (nI n) (nI e) (nI k) (nI o) = n_X3_takesWords_b19 m (mput M S u) (some M) (nI n) (nI o) (nI e) (nI k - 1) := fun e => h84 0 e o (Int32.add_zero _)
    have h55 : ∀ e : Nat, n_X3_takesWords_b55 (n_X3_takesWords_b19 m) (mput M S u) (some M) (nI n) (nI o) (nI k) x (nI e) = n_X3_takesWords_b19 m (mput M S u) (some M) (nI n) (nI (if x = -3 then o + 1 else if x = -2 then o - 1 else o)) (nI e) (nI k - 1) := by
      intro e
      simp only [n_X3_takesWords_b55, h83, nI_le0 (show o < 2 ^ 31 by omega)]
      by_cases c1 : x = -3
      · rw [if_pos c1, if_pos c1]; exact h84 1 e (o + 1) (nI_1 o)
      · rw [if_neg c1, if_neg c1]
        by_cases c2 : x = -2
        · rw [if_pos c2, if_pos c2]
          by_cases c3 : o = 0
          · rw [if_pos c3, c3]
          · rw [if_neg c3]
            obtain ⟨o', rfl⟩ : ∃ o', o = o' + 1 := ⟨o - 1, by omega⟩
            exact h84 (-1) e o' (nI_m1 o')
        · rw [if_neg c2, if_neg c2]
    have h54 : n_X3_takesWords_b54 (n_X3_takesWords_b19 m) (mput M S u) (some M) (nI n) (nI o) (nI (k + 1 + c)) (nI k) x = n_X3_takesWords_b55 (n_X3_takesWords_b19 m) (mput M S u) (some M) (nI n) (nI o) (nI k) x (nI (k + 1 + c)) := rfl
    simp only [n_X3_takesWords_b19, nI_pred, nI_lt0 (show k < 2 ^ 31 by omega), if_false, mR_9, ob_s, li_20, nI_mul, nI_add, ma_6 (show 20 * n + k < 1200 by omega), hw6, h54, h55, nI_eq0 (show o < 2 ^ 31 by omega)]
    by_cases c1 : x = -2
    · by_cases c2 : o = 0
      · simp [c1, c2]
      · simp only [if_pos c1, if_neg c2, c2, and_false, if_false]
        rw [show k + 1 + c = k + (c + 1) by omega]
    · simp only [if_neg c1, c1, false_and, if_false]
      rw [show k + 1 + c = k + (c + 1) by omega]
  · intro m
    simp only [n_X3_takesWords_b19, e_m1, if_true, mw_44, ob_s, List.drop_zero, Nat.zero_add, ← eE]
    exact k3
end
