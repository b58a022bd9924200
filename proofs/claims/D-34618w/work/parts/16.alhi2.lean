/-! ArrayList over the high heap: clear, remove, insert, iterators -/
theorem hm_J2_add {S S1 : St} {a0 x : Option Nat} {r : Int32} (h : h_J2_add S a0 x = some (r, S1)) : S.2.1 ≤ S1.2.1 ∧ S.2.2.1 ≤ S1.2.2.1 := by
  obtain ⟨o, ho, hb⟩ := Option.bind_eq_some_iff.mp h
  split at hb
  · cases hb
    simp only [algrow]
    split
    · exact ⟨Nat.le_refl _, Nat.le_refl _⟩
    · exact ⟨Nat.le_succ _, Nat.le_add_right _ _⟩
  · cases hb
theorem alf_clear (xs : List (Option Nat)) : (fun j => if 0 ≤ j ∧ j < xs.length then vR none else alf xs j) = alf [] := by
  funext j
  simp only [alf]
  split
  · rfl
  · rw [List.getElem?_eq_none (l := xs) (by omega)]; rfl
theorem clearL_e : ∀ (n i fu : Nat) (S : St) (a cap N : Nat) (f : Nat → TV), S.1 a = some (cA 4 cap f) → N ≤ cap → cap < 10000 → i + n = N → n < fu → ∃ S', n_J2_clear_b27 fu S (some a) (nI N) (nI i) = some ((), S') ∧ S'.2 = S.2 ∧ S'.1 a = some (cA 4 cap (fun j => if i ≤ j ∧ j < N then vR none else f j)) ∧ ∀ b, b ≠ a → S'.1 b = S.1 b
  | 0, i, fu + 1, S, a, cap, N, f, ha, hN, hc, hi, hf => by
    refine ⟨S, ?_, rfl, ?_, fun _ _ => rfl⟩
    · show (if nI N ≤ nI i then _ else _) = _
      rw [if_pos (nI_le (by omega) (by omega))]
    · rw [ha]
      have : f = fun j => if i ≤ j ∧ j < N then vR none else f j := by
        funext j
        rw [if_neg (by omega)]
      rw [← this]
  | n + 1, i, fu + 1, S, a, cap, N, f, ha, hN, hc, hi, hf => by
    have hs := sR_e (okst_none S 4) ha (i := i) (by omega) (by omega)
    obtain ⟨S', h1, h2, h3, h4⟩ := clearL_e n (i + 1) fu (sup S a (cA 4 cap (updT f i (vR none)))) a cap N (updT f i (vR none)) (sup_at _ _ _) hN hc (by omega) (by omega)
    refine ⟨S', ?_, h2, ?_, fun b hb => (h4 b hb).trans (sup_ne _ _ hb)⟩
    · show (if nI N ≤ nI i then _ else _) = _
      rw [if_neg (nI_ge (by omega) (by omega)), hs, Option.bind_some, ← nI_succ]
      exact h1
    · rw [h3]
      have : (fun j => if i + 1 ≤ j ∧ j < N then vR none else updT f i (vR none) j) = fun j => if i ≤ j ∧ j < N then vR none else f j := by
        funext j
        simp only [updT]
        by_cases h1 : i ≤ j ∧ j < N
        · rw [if_pos h1]
          by_cases h2 : j = i
          · subst h2; rw [if_neg (by omega), if_pos rfl]
          · rw [if_pos (by omega)]
        · rw [if_neg h1, if_neg (by omega), if_neg (by omega)]
      rw [this]
theorem clear_done {fu : Nat} {S : St} {x1 : Option Nat} {x2 x3 : Int32} (h : 0 < fu) (hx : x2 ≤ x3) : n_J2_clear_b27 fu S x1 x2 x3 = some ((), S) := by
  match fu, h with
  | fu + 1, _ => exact if_pos hx
theorem rem_done {fu : Nat} {S : St} {x0 x1 x2 : Option Nat} {x3 x4 : Int32} (h : 0 < fu) (hx : x3 ≤ x4) : n_J2_remove_2_b39 fu S x0 x1 x2 x3 x4 = some (0, S) := by
  match fu, h with
  | fu + 1, _ => exact if_pos hx
theorem ab_J2_clear {S SL S1 : St} {O : Nat → Option Nat} {a0 : Option Nat} {r : Unit} (h : h_J2_clear S a0 = some (r, S1)) (A : Abs S SL O) : ∃ SL' O', n_J2_clear SL a0 = some (r, SL') ∧ Abs S1 SL' O' := by
  obtain ⟨⟨q, md, cap, xs⟩, ho, hb⟩ := Option.bind_eq_some_iff.mp h
  obtain ⟨rfl, hS⟩ := galc_s ho
  cases hb
  obtain ⟨a, k, f, hq, ha, haq, hal, hok, hle, hcap, hk⟩ := aAL_arr A hS
  have hst : n_J2_clear SL (some q) = n_J2_clear_b27 FU (sup SL q (cO 8 [vI (md + 1), vR (some a), vI 0])) (some a) (nI xs.length) 0 := by
    unfold n_J2_clear
    simp [gI, gR, gF, gobj, gcell, pI, pF, gfit, hq, sup_1, asI, asR, sup_sup]
  rcases hk with ⟨rfl, rfl, rfl⟩ | ⟨h0, rfl, rfl, hO⟩
  · have hn : xs.length = 0 := by omega
    refine ⟨sup SL q (cO 8 [vI (md + 1), vR (some (S.2.2.2 0)), vI 0]), O, ?_, Abs_upO A hS (e' := cAL (md + 1) 0 []) rfl _ ⟨fun x hx => (nomatch hx), Nat.le_refl _, by omega, Or.inl ⟨rfl, sup_at _ _ _⟩⟩⟩
    rw [hst, hn, clear_done (by decide) (by decide)]
  · obtain ⟨S', h1, h2, h3, h4⟩ := clearL_e xs.length 0 FU (sup SL q (cO 8 [vI (md + 1), vR (some a), vI 0])) a cap xs.length (alf xs) (by rw [sup_ne _ _ haq]; exact ha) hle hcap (by omega) (by unfold FU; omega)
    rw [alf_clear] at h3
    refine ⟨S', O, hst.trans h1, Abs_al A hS hO h0 hcap (Nat.zero_le _) (fun x hx => (nomatch hx)) h2 ?_ h3 fun b h5 h6 => ?_⟩
    · rw [h4 q (Ne.symm haq), sup_at]; rfl
    · rw [h4 b h6, sup_ne _ _ h5]
theorem hm_J2_clear {S S1 : St} {a0 : Option Nat} {r : Unit} (h : h_J2_clear S a0 = some (r, S1)) : S.2.1 ≤ S1.2.1 ∧ S.2.2.1 ≤ S1.2.2.1 := by
  obtain ⟨o, ho, hb⟩ := Option.bind_eq_some_iff.mp h
  cases hb
  exact ⟨Nat.le_refl _, Nat.le_refl _⟩
/-! removal at a place -/
theorem alf_erase (xs : List (Option Nat)) {j : Nat} (hj : j < xs.length) : updT (va_cpy (alf xs) (alf xs) (j + 1) j (xs.length - 1 - j)) (xs.length - 1) (vR none) = alf (xs.eraseIdx j) := by
  funext i
  simp only [updT, va_cpy, alf, List.getElem?_eraseIdx]
  by_cases h1 : i = xs.length - 1
  · rw [if_pos h1, if_neg (by omega), List.getElem?_eq_none (by omega)]; rfl
  · rw [if_neg h1]
    by_cases h2 : j ≤ i ∧ i < j + (xs.length - 1 - j)
    · rw [if_pos h2, if_neg (by omega), show j + 1 + (i - j) = i + 1 by omega]
    · rw [if_neg h2]
      by_cases h3 : i < j
      · rw [if_pos h3]
      · rw [if_neg h3, List.getElem?_eq_none (by omega), List.getElem?_eq_none (by omega)]
theorem alf_eraseL (xs : List (Option Nat)) (h : 0 < xs.length) : updT (alf xs) (xs.length - 1) (vR none) = alf (xs.eraseIdx (xs.length - 1)) := by
  rw [← alf_erase xs (j := xs.length - 1) (by omega), Nat.sub_self]
  congr 1
  funext i
  simp only [va_cpy]
  rw [if_neg (by omega)]
theorem fastRem_e {S : St} {q a cap j : Nat} {md : Int32} {xs : List (Option Nat)} (hq : S.1 q = some (cO 8 [vI md, vR (some a), vI (nI xs.length)])) (ha : S.1 a = some (cA 4 cap (alf xs))) (haq : a ≠ q) (hc : cap < 10000) (hl : xs.length ≤ cap) (hj : j < xs.length) (hok : ∀ x ∈ xs, okst S 4 x = true) :
    n_J2_fastRemove S (some q) (some a) (nI j) = some ((), sup (sup S a (cA 4 cap (alf (xs.eraseIdx j)))) q (cO 8 [vI (md + 1), vR (some a), vI (nI (xs.length - 1))])) := by
  have hst : n_J2_fastRemove S (some q) (some a) (nI j) = (fun S2 => if nI (xs.length - 1) ≤ nI j then n_J2_fastRemove_b34 S2 (some q) (some a) (nI (xs.length - 1)) else (acp S2 (some a) (nI (j + 1)) (some a) (nI j) (nI (xs.length - 1 - j))).bind fun S4 => n_J2_fastRemove_b34 S4 (some q) (some a) (nI (xs.length - 1))) (sup S q (cO 8 [vI (md + 1), vR (some a), vI (nI xs.length)])) := by
    unfold n_J2_fastRemove
    have e1 : nI xs.length - 1 = nI (xs.length - 1) := pk_sub (b := 1) (by omega)
    simp [gI, gR, gF, gobj, gcell, pI, pF, gfit, hq, sup_1, asI, asR, e1]
    by_cases h1 : nI (xs.length - 1) ≤ nI j
    · rw [if_pos h1, if_pos h1]
    · rw [if_neg h1, if_neg h1, pk_sub (by
        have := fun h => h1 (nI_le (a := xs.length - 1) (b := j) h (by omega))
        omega), ← nI_succ]
  rw [hst]
  simp only
  have ha1 : (sup S q (cO 8 [vI (md + 1), vR (some a), vI (nI xs.length)])).1 a = some (cA 4 cap (alf xs)) := by rw [sup_ne _ _ haq]; exact ha
  have fin : ∀ (f : Nat → TV), updT f (xs.length - 1) (vR none) = alf (xs.eraseIdx j) → n_J2_fastRemove_b34 (sup (sup S q (cO 8 [vI (md + 1), vR (some a), vI (nI xs.length)])) a (cA 4 cap f)) (some q) (some a) (nI (xs.length - 1)) = some ((), sup (sup S a (cA 4 cap (alf (xs.eraseIdx j)))) q (cO 8 [vI (md + 1), vR (some a), vI (nI (xs.length - 1))])) := by
    intro f hf
    unfold n_J2_fastRemove_b34
    have hs := sR_e (S := sup (sup (sup S q (cO 8 [vI (md + 1), vR (some a), vI (nI xs.length)])) a (cA 4 cap f)) q (cO 8 [vI (md + 1), vR (some a), vI (nI (xs.length - 1))])) (q := a) (n := cap) (f := f) (i := xs.length - 1) (okst_none _ 4) (by simp [sup_1, haq]) (by omega) (by omega)
    simp [gobj, gcell, pI, pF, gfit, sup_1, Ne.symm haq, hs, hf]
    refine Prod.ext (funext fun b => ?_) rfl
    simp only [sup]
    by_cases hb : b = q
    · rw [if_neg (by omega), if_pos hb, if_pos hb]
    · by_cases hb2 : b = a
      · rw [if_pos hb2, if_neg hb, if_pos hb2]
      · simp only [if_neg hb, if_neg hb2]
  by_cases h1 : j = xs.length - 1
  · rw [if_pos (nI_le (by omega) (by omega))]
    have := fin (alf xs) (by rw [h1]; exact alf_eraseL xs (by omega))
    rw [← this]
    congr 1
    refine Prod.ext (funext fun b => ?_) rfl
    simp only [sup]
    by_cases hb2 : b = a
    · rw [if_pos hb2, hb2, if_neg haq, ha]
    · rw [if_neg hb2]
  · rw [if_neg (nI_ge (by omega) (by omega)), acp_e (k := xs.length - 1 - j) ha1 ha1 (by omega) (by omega) (by omega) (by omega) fun i _ => ?_]
    · rw [Option.bind_some]
      exact fin _ (alf_erase xs hj)
    · exact okT_alf (fun x hx => okst_sup hq (e' := cO 8 [vI (md + 1), vR (some a), vI (nI xs.length)]) rfl (hok x hx)) _
/-- the plain heap after a removal -/
theorem Abs_rem {S SL : St} {O : Nat → Option Nat} {q a cap j : Nat} {md : Int32} {xs : List (Option Nat)} (A : Abs S SL O) (hS : S.1 q = some (cAL md cap xs)) (haq : a ≠ q) (hO : O a = some q) (h0 : 0 < cap) (hc : cap < 10000) (hl : xs.length ≤ cap) (hj : j < xs.length) (hok : ∀ x ∈ xs, okst S 4 x = true) : Abs (sup S q (cAL (md + 1) cap (xs.eraseIdx j))) (sup (sup SL a (cA 4 cap (alf (xs.eraseIdx j)))) q (cO 8 [vI (md + 1), vR (some a), vI (nI (xs.length - 1))])) O := by
  have hle : (xs.eraseIdx j).length = xs.length - 1 := List.length_eraseIdx_of_lt hj
  refine Abs_al A hS hO h0 hc (by omega) (fun x hx => hok x (List.eraseIdx_subset hx)) rfl ?_ ?_ fun b h1 h2 => ?_
  · rw [sup_at, hle]
  · rw [sup_ne _ _ haq, sup_at]
  · rw [sup_ne _ _ h1, sup_ne _ _ h2]
theorem J2_rem_e {S SL : St} {O : Nat → Option Nat} {q a cap j : Nat} {md : Int32} {xs : List (Option Nat)} {x : Option Nat} (A : Abs S SL O) (hq : SL.1 q = some (cO 8 [vI md, vR (some a), vI (nI xs.length)])) (ha : SL.1 a = some (cA 4 cap (alf xs))) (haq : a ≠ q) (hc : cap < 10000) (hl : xs.length ≤ cap) (hx : xs[j]? = some x) (hok : ∀ x ∈ xs, okst S 4 x = true) :
    n_J2_remove SL (some q) (nI j) = some (x, sup (sup SL a (cA 4 cap (alf (xs.eraseIdx j)))) q (cO 8 [vI (md + 1), vR (some a), vI (nI (xs.length - 1))])) := by
  have hj : j < xs.length := (List.getElem?_eq_some_iff.mp hx).1
  have h1 := chk_e SL hj (by omega)
  have h2 := aR_e ha (i := j) (by omega) (by omega) (alf_at hx)
  have h3 := fastRem_e hq ha haq hc hl hj fun x hx => okst_lo A (hok x hx)
  unfold n_J2_remove
  simp [gI, gR, gF, gobj, gcell, hq, asI, asR, h1, h2, h3, bn, grc, gclsOf]
theorem ab_J2_remove {S SL S1 : St} {O : Nat → Option Nat} {a0 : Option Nat} {i : Int32} {r : Option Nat} (h : h_J2_remove S a0 i = some (r, S1)) (A : Abs S SL O) : ∃ SL' O', n_J2_remove SL a0 i = some (r, SL') ∧ Abs S1 SL' O' := by
  obtain ⟨⟨q, md, cap, xs⟩, ho, hb⟩ := Option.bind_eq_some_iff.mp h
  obtain ⟨rfl, hS⟩ := galc_s ho
  simp only at hb
  split at hb
  · cases hb
  · next hi0 =>
    obtain ⟨x, hx, hb2⟩ := Option.bind_eq_some_iff.mp hb
    cases hb2
    obtain ⟨j, hj, rfl⟩ := nI_of hi0
    rw [nI_clamp hj] at hx ⊢
    have hjl : j < xs.length := (List.getElem?_eq_some_iff.mp hx).1
    obtain ⟨a, k, f, hq, ha, haq, -, hok, hl, hc, hk⟩ := aAL_arr A hS
    obtain ⟨h3, -, -⟩ | ⟨h3, rfl, rfl, hO⟩ := hk
    · omega
    exact ⟨_, O, J2_rem_e A hq ha haq hc hl hx hok, Abs_rem A hS haq hO h3 hc hl hjl hok⟩
theorem hm_J2_remove {S S1 : St} {a0 : Option Nat} {i : Int32} {r : Option Nat} (h : h_J2_remove S a0 i = some (r, S1)) : S.2.1 ≤ S1.2.1 ∧ S.2.2.1 ≤ S1.2.2.1 := by
  obtain ⟨o, ho, hb⟩ := Option.bind_eq_some_iff.mp h
  split at hb
  · cases hb
  · obtain ⟨x, hx, hb2⟩ := Option.bind_eq_some_iff.mp hb
    cases hb2
    exact ⟨Nat.le_refl _, Nat.le_refl _⟩
theorem remL_e {S : St} {q a x1 cap : Nat} {xs : List (Option Nat)} (ha : S.1 a = some (cA 4 cap (alf xs))) (hc : cap < 10000) (hl : xs.length ≤ cap) (hg : grc S (some x1) 5 = true) : ∀ (n i fu : Nat), i + n = xs.length → n < fu → i ≤ xs.idxOf (some x1) →
    n_J2_remove_2_b39 fu S (some q) (some x1) (some a) (nI xs.length) (nI i) = if xs.idxOf (some x1) < xs.length then n_J2_remove_2_b67 S (some q) (some a) (nI (xs.idxOf (some x1))) else some (0, S)
  | 0, i, fu + 1, hi, hf, hx => by
    show (if nI xs.length ≤ nI i then _ else _) = _
    rw [if_pos (nI_le (by omega) (by omega)), if_neg (by omega)]
    rfl
  | n + 1, i, fu + 1, hi, hf, hx => by
    show (if nI xs.length ≤ nI i then _ else _) = _
    have hil : i < xs.length := by omega
    have hxi : xs[i]? = some xs[i] := List.getElem?_eq_getElem hil
    rw [if_neg (nI_ge (by omega) (by omega)), aR_e ha (i := i) (by omega) (by omega) (alf_at hxi), Option.bind_some, hg, gd, if_pos rfl]
    unfold n_J35_equals
    by_cases he : some x1 = xs[i]
    · rw [if_pos he, rtI_b1]
      have : xs.idxOf (some x1) = i := by
        refine Nat.le_antisymm ?_ hx
        refine Nat.le_of_not_lt fun h => ?_
        have := List.not_of_lt_findIdx (p := (· == some x1)) (xs := xs) (i := i) h
        rw [← he] at this
        simp at this
      rw [this, if_pos hil]
      rfl
    · rw [if_neg he, rtI_b0]
      show n_J2_remove_2_b39 fu S (some q) (some x1) (some a) (nI xs.length) (nI i + 1) = _
      rw [← nI_succ]
      refine remL_e ha hc hl hg n (i + 1) fu (by omega) (by omega) (Nat.lt_of_le_of_ne hx fun h => he ?_)
      have h2 : xs.idxOf (some x1) < xs.length := by omega
      have := List.getElem_idxOf h2
      rw [← this]
      simp only [← h]
theorem ab_J2_remove_2 {S SL S1 : St} {O : Nat → Option Nat} {a0 x : Option Nat} {r : Int32} (h : h_J2_remove_2 S a0 x = some (r, S1)) (A : Abs S SL O) : ∃ SL' O', n_J2_remove_2 SL a0 x = some (r, SL') ∧ Abs S1 SL' O' := by
  obtain ⟨⟨q, md, cap, xs⟩, ho, hb⟩ := Option.bind_eq_some_iff.mp h
  obtain ⟨rfl, hS⟩ := galc_s ho
  simp only at hb
  split at hb
  case isFalse => cases hb
  next hg =>
  obtain ⟨x1, e1, rfl, -, -⟩ := grc_some hg
  have hgl := grc_lo A hg
  obtain ⟨a, k, f, hq, ha, haq, -, hok, hl, hc, hk⟩ := aAL_arr A hS
  have hst : n_J2_remove_2 SL (some q) (some x1) = n_J2_remove_2_b39 FU SL (some q) (some x1) (some a) (nI xs.length) 0 := by
    unfold n_J2_remove_2
    simp [gI, gR, gF, gobj, gcell, hq, asI, asR]
  rw [hst]
  rcases hk with ⟨rfl, rfl, rfl⟩ | ⟨h0, rfl, rfl, hO⟩
  · have hx0 : xs = [] := List.length_eq_zero_iff.mp (by omega)
    subst hx0
    simp only [List.not_mem_nil, if_false] at hb
    cases hb
    refine ⟨SL, O, ?_, A⟩
    exact rem_done (by decide) (by decide)
  · rw [show (0 : Int32) = nI 0 from rfl, remL_e ha hc hl hgl xs.length 0 FU (by omega) (by unfold FU; omega) (Nat.zero_le _)]
    by_cases hm : some x1 ∈ xs
    · rw [if_pos hm] at hb
      cases hb
      have hi := List.idxOf_lt_length_of_mem hm
      rw [if_pos hi, List.erase_eq_eraseIdx_of_idxOf rfl]
      refine ⟨_, O, ?_, Abs_rem A hS haq hO h0 hc hl hi hok⟩
      unfold n_J2_remove_2_b67
      rw [grc_e hq, fastRem_e hq ha haq hc hl hi fun x hx => okst_lo A (hok x hx)]
      rfl
    · rw [if_neg hm] at hb
      cases hb
      rw [if_neg (fun h => hm (List.idxOf_lt_length_iff.mp h))]
      exact ⟨SL, O, rfl, A⟩
theorem hm_J2_remove_2 {S S1 : St} {a0 x : Option Nat} {r : Int32} (h : h_J2_remove_2 S a0 x = some (r, S1)) : S.2.1 ≤ S1.2.1 ∧ S.2.2.1 ≤ S1.2.2.1 := by
  obtain ⟨o, ho, hb⟩ := Option.bind_eq_some_iff.mp h
  split at hb
  · split at hb <;> cases hb <;> exact ⟨Nat.le_refl _, Nat.le_refl _⟩
  · cases hb
/-! insertion -/
theorem alf_insert (xs : List (Option Nat)) {j : Nat} (x : Option Nat) (hj : j ≤ xs.length) : updT (va_cpy (alf xs) (alf xs) j (j + 1) (xs.length - j)) j (vR x) = alf (xs.insertIdx j x) := by
  funext i
  simp only [updT, va_cpy, alf, List.getElem?_insertIdx]
  by_cases h1 : i = j
  · subst h1; rw [if_pos rfl, if_neg (by omega), if_pos rfl, if_pos hj]; rfl
  · rw [if_neg h1]
    by_cases h2 : j + 1 ≤ i ∧ i < j + 1 + (xs.length - j)
    · rw [if_pos h2, if_neg (by omega), if_neg h1, show j + (i - (j + 1)) = i - 1 by omega]
    · rw [if_neg h2]
      by_cases h3 : i < j
      · rw [if_pos h3]
      · rw [if_neg h3, if_neg h1, List.getElem?_eq_none (by omega), List.getElem?_eq_none (by omega)]
theorem add3_e {S : St} {q a cap j : Nat} {md : Int32} {xs : List (Option Nat)} {x : Option Nat} (hq : S.1 q = some (cO 8 [vI md, vR (some a), vI (nI xs.length)])) (ha : S.1 a = some (cA 4 cap (alf xs))) (haq : a ≠ q) (hc : cap < 10000) (hl : xs.length < cap) (hj : j ≤ xs.length) (hok : ∀ x ∈ xs, okst S 4 x = true) (hx : okst S 4 x = true) :
    n_J2_add_3_b38 S (some q) (nI j) x (nI xs.length) (some a) = some ((), sup (sup S a (cA 4 cap (alf (xs.insertIdx j x)))) q (cO 8 [vI md, vR (some a), vI (nI (xs.length + 1))])) := by
  unfold n_J2_add_3_b38
  have hs := sR_e (S := sup S a (cA 4 cap (va_cpy (alf xs) (alf xs) j (j + 1) (xs.length - j)))) (q := a) (n := cap) (f := va_cpy (alf xs) (alf xs) j (j + 1) (xs.length - j)) (i := j) (x := x) (okst_sup ha (e' := cA 4 cap (va_cpy (alf xs) (alf xs) j (j + 1) (xs.length - j))) rfl hx) (sup_at _ _ _) (by omega) (by omega)
  have hac := acp_e (S := S) (s := j) (d := j + 1) (k := xs.length - j) ha ha (by omega) (by omega) (by omega) (by omega) fun i _ => okT_alf hok _
  rw [← nI_succ, pk_sub hj, hac, Option.bind_some, hs, Option.bind_some, alf_insert xs x hj, sup_sup, pI_e (by rw [sup_ne _ _ (Ne.symm haq)]; exact hq), ← nI_succ]
  rfl
theorem ab_J2_add_3 {S SL S1 : St} {O : Nat → Option Nat} {a0 x : Option Nat} {i : Int32} {r : Unit} (h : h_J2_add_3 S a0 i x = some (r, S1)) (A : Abs S SL O) : ∃ SL' O', n_J2_add_3 SL a0 i x = some (r, SL') ∧ Abs S1 SL' O' := by
  obtain ⟨⟨q, md, cap, xs⟩, ho, hb⟩ := Option.bind_eq_some_iff.mp h
  obtain ⟨rfl, hS⟩ := galc_s ho
  simp only at hb
  split at hb
  case isFalse => cases hb
  next hg =>
  obtain ⟨hx, hi0, hil, hlen⟩ := hg
  cases hb
  obtain ⟨j, hj, rfl⟩ := nI_of hi0
  rw [nI_clamp hj] at hil ⊢
  obtain ⟨a, k, f, hq, ha, haq, hal, hok, hle, hcap, hk⟩ := aAL_arr A hS
  have hql := (A.2.2.2 q _ hS).1
  have hsz : SL.2.1 = S.2.1 := by rw [A.1]
  have hl1 : (xs.insertIdx j x).length = xs.length + 1 := List.length_insertIdx_of_le_length hil x
  have hok2 : ∀ y ∈ xs.insertIdx j x, okst S 4 y = true := fun y hy => by
    rcases (List.mem_insertIdx hil).mp hy with hy | hy
    · rw [hy]; exact hx
    · exact hok y hy
  have hlnc : aLn (sup SL q (cO 8 [vI (md + 1), vR (some a), vI (nI xs.length)])) (some a) = some (nI cap) := by
    rcases hk with ⟨-, rfl, -⟩ | ⟨-, rfl, -⟩ <;> simp [aLn, gcell, sup_1, haq, ha, nI]
  have hst : n_J2_add_3 SL (some q) (nI j) x = if nI xs.length = nI cap then gd (grc (sup SL q (cO 8 [vI (md + 1), vR (some a), vI (nI xs.length)])) (some q) 8) (bn (n_J2_grow (sup SL q (cO 8 [vI (md + 1), vR (some a), vI (nI xs.length)])) (some q)) fun v9 S8 => n_J2_add_3_b38 S8 (some q) (nI j) x (nI xs.length) v9) else n_J2_add_3_b38 (sup SL q (cO 8 [vI (md + 1), vR (some a), vI (nI xs.length)])) (some q) (nI j) x (nI xs.length) (some a) := by
    unfold n_J2_add_3 n_J2_rangeCheckForAdd
    have h1 : ¬ nI xs.length < nI j := nI_nlt hil (by omega)
    have h2 : 0 ≤ nI j := nI_pos' (by omega)
    simp [gI, gR, gF, gobj, gcell, hq, asI, asR, grc, gclsOf, h1, h2, bn, pI, pF, gfit, sup_1, hlnc]
  rw [hst]
  by_cases hn : xs.length < cap
  · have hk4 : k = 4 ∧ f = alf xs ∧ O a = some q := by
      rcases hk with ⟨h0, -⟩ | ⟨-, h1⟩
      · omega
      · exact h1
    obtain ⟨rfl, rfl, hO⟩ := hk4
    rw [if_neg (fun h => absurd ((nI_eq (by omega) (by omega)).mp h) (by omega))]
    have hos : ∀ y, okst S 4 y = true → okst (sup SL q (cO 8 [vI (md + 1), vR (some a), vI (nI xs.length)])) 4 y = true := fun y hy => okst_sup hq (e' := cO 8 [vI (md + 1), vR (some a), vI (nI xs.length)]) rfl (okst_lo A hy)
    refine ⟨_, O, add3_e (sup_at _ _ _) (by rw [sup_ne _ _ haq]; exact ha) haq hcap hn hil (fun y hy => hos y (hok y hy)) (hos x hx), ?_⟩
    simp only [algrow, if_pos hn, alcap_lt hn]
    refine Abs_al A hS hO (by omega) hcap (by omega) hok2 rfl ?_ ?_ ?_
    · rw [sup_at, hl1]
    · rw [sup_ne _ _ haq, sup_at]
    · intro b hbq hba
      rw [sup_ne _ _ hbq, sup_ne _ _ hba, sup_ne _ _ hbq]
  · have he : cap = xs.length := by omega
    subst he
    have hqn : S.2.1 ≠ q := by omega
    have hag := alcap_ge (cap := xs.length) (n := xs.length) (by omega) hlen
    have hos : ∀ y, okst S 4 y = true → okst (sup (spu SL (cA 4 (alcap xs.length xs.length) (alf xs)) (alcap xs.length xs.length)) q (cO 8 [vI (md + 1), vR (some S.2.1), vI (nI xs.length)])) 4 y = true := fun y hy => okst_lo2 A hy fun b e hb2 hbe _ => by
      by_cases hbq : b = q
      · subst hbq
        cases hbe.symm.trans hq
        exact ⟨_, sup_at _ _ _, rfl⟩
      · exact ⟨e, by rw [sup_ne _ _ hbq, spu_lt _ _ _ (by omega)]; exact hbe, rfl⟩
    rw [if_pos rfl, grc_e (sup_at _ _ _)]
    have h38 := add3_e (j := j) (sup_at (spu SL (cA 4 (alcap xs.length xs.length) (alf xs)) (alcap xs.length xs.length)) q (cO 8 [vI (md + 1), vR (some S.2.1), vI (nI xs.length)])) (by rw [sup_ne _ _ hqn, ← hsz, spu_at]) hqn (by omega) (by omega) hil (fun y hy => hos y (hok y hy)) (hos x hx)
    refine ⟨_, fun b => if b = S.2.1 then some q else if b < S.2.1 then O b else none, (if_pos rfl).trans ((bn_of (grow_e (md' := md + 1) A hS hq ha haq hal hok rfl (by omega) hk)).trans h38), ?_⟩
    · simp only [algrow, if_neg hn]
      refine Abs_alg A hS (by omega) (by omega) (by omega) hok2 (by simp only [sup, spu, ssk, A.1]) ?_ ?_ ?_
      · rw [sup_at, hl1]
      · rw [sup_ne _ _ hqn, sup_at]
      · intro b hbq hbl
        rw [sup_ne _ _ hbq, sup_ne _ _ (by omega), sup_ne _ _ hbq, spu_lt _ _ _ (by omega)]
theorem hm_J2_add_3 {S S1 : St} {a0 x : Option Nat} {i : Int32} {r : Unit} (h : h_J2_add_3 S a0 i x = some (r, S1)) : S.2.1 ≤ S1.2.1 ∧ S.2.2.1 ≤ S1.2.2.1 := by
  obtain ⟨o, ho, hb⟩ := Option.bind_eq_some_iff.mp h
  split at hb
  · cases hb
    simp only [algrow]
    split
    · exact ⟨Nat.le_refl _, Nat.le_refl _⟩
    · exact ⟨Nat.le_succ _, Nat.le_add_right _ _⟩
  · cases hb
