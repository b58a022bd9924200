/-! ArrayDeque over the high heap -/
theorem gdqc_s {S : St} {r : Option Nat} {q cap : Nat} {xs : List (Option Nat)} (h : gdqc S r = some (q, cap, xs)) : r = some q ∧ S.1 q = some (cDQ cap xs) := by
  unfold gdqc at h
  split at h
  · next q cap xs hc => cases h; exact gcell_some hc
  · cases h
/-- the owners, with a fresh cell behind q -/
def fO (O : Nat → Option Nat) (S : St) (q : Nat) : Nat → Option Nat := fun b => if b = S.2.1 then some q else if b < S.2.1 then O b else none
theorem Abs_fresh {S SL SL' : St} {O : Nat → Option Nat} {q n : Nat} {e e' : CE} (A : Abs S SL O) (hS : S.1 q = some e) (hcl : gclsOf e' = gclsOf e) (h2 : SL'.2 = (ssk S n).2) (hr : ∀ b, b ≠ q → O b ≠ some q → b < S.2.1 → SL'.1 b = SL.1 b) (he : absE (ssk (sup S q e') n) SL' (fO O S q) q e') : Abs (ssk (sup S q e') n) SL' (fO O S q) :=
  Abs_up A hS hcl (fun _ => rfl) h2 rfl (Nat.le_succ _) hr (fun b _ h => by unfold fO; rw [if_neg (by omega), if_pos h])
    (fun b c h => by
      unfold fO at h
      split at h
      · next hb => cases h; exact Or.inr ⟨rfl, by omega, by subst hb; exact Nat.lt_succ_self _⟩
      · split at h
        · next hb => exact Or.inl ⟨h, hb⟩
        · cases h) he
theorem ab_J33_init {S SL S1 : St} {O : Nat → Option Nat} {a0 : Option Nat} {r : Unit} (h : h_J33_init S a0 = some (r, S1)) (A : Abs S SL O) : ∃ SL' O', n_J33_init SL a0 = some (r, SL') ∧ Abs S1 SL' O' := by
  obtain ⟨⟨q, fs⟩, ho, hb1⟩ := Option.bind_eq_some_iff.mp h
  obtain ⟨rfl, hS⟩ := gobj_some ho
  simp only at hb1
  split at hb1
  case isFalse => cases hb1
  next hf =>
  subst hf
  cases hb1
  have hq : SL.1 q = some (cO 14 [vR none, vI 0, vI 0]) := (A.2.2.2 q _ hS).2
  have hql := (A.2.2.2 q _ hS).1
  have hsz : SL.2.1 = S.2.1 := by rw [A.1]
  have hqn : q ≠ SL.2.1 := by omega
  have hst : n_J33_init SL (some q) = some ((), sup (spu SL (cA 4 17 (fun _ => gdef 4)) 17) q (cO 14 [vR (some SL.2.1), vI 0, vI 0])) := by
    unfold n_J33_init n_J0_init
    have h1 := naB_e (α := Unit × St) SL (k := 4) (n := 17) (by omega)
    simp only [gd, bn, Option.isSome_some, if_true]
    rw [show (17 : Int32) = nI 17 from rfl, h1]
    simp [pR, pF, gobj, gcell, hq, spu_1, hqn]
  refine ⟨_, fO O S q, hst, Abs_fresh A hS (e' := cDQ 17 []) rfl (by simp only [sup, spu, ssk, A.1]) (fun b h1 _ h3 => by rw [sup_ne _ _ h1, spu_lt _ _ _ (by omega)]) ⟨fun x hx => (nomatch hx), by decide, by decide, SL.2.1, 0, fun _ => gdef 4, by decide, sup_at _ _ _, ?_, ?_, fun i _ => rfl⟩⟩
  · unfold fO; rw [if_pos hsz]
  · rw [sup_ne _ _ (Ne.symm hqn), spu_at]
theorem hm_J33_init {S S1 : St} {a0 : Option Nat} {r : Unit} (h : h_J33_init S a0 = some (r, S1)) : S.2.1 ≤ S1.2.1 ∧ S.2.2.1 ≤ S1.2.2.1 := by
  obtain ⟨o, h1⟩ := hm_bind h
  split at h1
  · cases h1
    exact ⟨Nat.le_succ _, Nat.le_add_right _ _⟩
  · cases h1
theorem dqm_lt {hd i cap : Nat} (h : hd < cap) (hi : i ≤ cap) : dqm hd i cap < cap := by unfold dqm; split <;> omega
theorem dqm_inj {hd i j cap : Nat} (h : hd < cap) (hi : i < cap) (hj : j < cap) (he : dqm hd i cap = dqm hd j cap) : i = j := by
  unfold dqm at he
  split at he <;> split at he <;> omega
theorem dqm_sur {hd j cap : Nat} (h : hd < cap) (hj : j < cap) : ∃ i, i < cap ∧ dqm hd i cap = j := by
  by_cases h1 : hd ≤ j
  · exact ⟨j - hd, by omega, by unfold dqm; rw [if_pos (by omega)]; omega⟩
  · exact ⟨j + cap - hd, by omega, by unfold dqm; rw [if_neg (by omega)]; omega⟩
theorem ab_J33_isEmpty {S SL S1 : St} {O : Nat → Option Nat} {a0 : Option Nat} {r : Int32} (h : h_J33_isEmpty S a0 = some (r, S1)) (A : Abs S SL O) : ∃ SL' O', n_J33_isEmpty SL a0 = some (r, SL') ∧ Abs S1 SL' O' := by
  obtain ⟨⟨q, cap, xs⟩, ho, hb1⟩ := Option.bind_eq_some_iff.mp h
  obtain ⟨rfl, hS⟩ := gdqc_s ho
  cases hb1
  obtain ⟨hok, hl, hc, a, hd, f, hhd, hq, hOa, ha, hf⟩ := (A.2.2.2 q _ hS).2
  refine ⟨SL, O, ?_, A⟩
  have e1 : nI hd = nI (dqm hd xs.length cap) ↔ xs.length = 0 := by
    rw [nI_eq (by omega) (by have := dqm_lt hhd (i := xs.length) (by omega); omega)]
    unfold dqm
    split <;> omega
  unfold n_J33_isEmpty
  simp [gI, gF, gobj, gcell, hq, asI, rtI, gfit, e1]
  split <;> rfl
theorem hm_J33_isEmpty {S S1 : St} {a0 : Option Nat} {r : Int32} (h : h_J33_isEmpty S a0 = some (r, S1)) : S.2.1 ≤ S1.2.1 ∧ S.2.2.1 ≤ S1.2.2.1 := by
  obtain ⟨o, h1⟩ := hm_bind h
  cases h1
  exact ⟨Nat.le_refl _, Nat.le_refl _⟩
theorem inc_e (S : St) {i cap : Nat} (h : i < cap) (hc : cap < 10000) : n_J33_inc S (nI i) (nI cap) = some (nI (dqm i 1 cap), S) := by
  unfold n_J33_inc dqm
  rw [← nI_succ]
  by_cases h1 : i + 1 < cap
  · rw [if_pos (nI_lt h1 (by omega)), if_pos h1]; rfl
  · rw [if_neg (nI_nlt (by omega) (by omega)), if_neg h1, show i + 1 - cap = 0 by omega]; rfl
theorem ab_J33_removeFirst {S SL S1 : St} {O : Nat → Option Nat} {a0 r : Option Nat} (h : h_J33_removeFirst S a0 = some (r, S1)) (A : Abs S SL O) : ∃ SL' O', n_J33_removeFirst SL a0 = some (r, SL') ∧ Abs S1 SL' O' := by
  obtain ⟨⟨q, cap, xs⟩, ho, hb1⟩ := Option.bind_eq_some_iff.mp h
  obtain ⟨rfl, hS⟩ := gdqc_s ho
  obtain ⟨x, hx, hb2⟩ := Option.bind_eq_some_iff.mp hb1
  cases hb2
  obtain ⟨hok, hl, hc, a, hd, f, hhd, hq, hOa, ha, hf⟩ := (A.2.2.2 q _ hS).2
  simp only at hx
  cases xs with
  | nil => cases hx
  | cons y ys =>
    cases hx
    have hxs := (hok _ (List.mem_cons_self ..)).2
    obtain ⟨z, rfl⟩ := Option.isSome_iff_exists.mp hxs
    have hf0 := hf 0 (by omega)
    have hd0 : dqm hd 0 cap = hd := by unfold dqm; rw [if_pos (by omega)]; omega
    rw [hd0] at hf0
    have haq : a ≠ q := fun h => by rw [h, hq] at ha; cases ha
    have har := aR_e (S := SL) ha hhd (by omega) (x := some z) hf0
    have hsr := sR_e (okst_none SL 4) ha hhd (by omega)
    have hln := aLn_e (S := sup SL a (cA 4 cap (updT f hd (vR none)))) (sup_at _ _ _) (Or.inl (by omega : 4 < 6))
    have hinc := inc_e (sup SL a (cA 4 cap (updT f hd (vR none)))) hhd hc
    refine ⟨?w, O, ?e, Abs_up A hS (S' := sup S q (cDQ cap ys)) (e' := cDQ cap ys) rfl (fun _ => rfl) ?s rfl (Nat.le_refl _) (fun b h1 h3 _ => ?r) (fun _ _ _ => rfl) (fun b c h => Or.inl ⟨h, (A.2.2.1 b c h).2⟩) ⟨fun x hx => ⟨okst_sup hS (e' := cDQ cap ys) rfl (hok x (List.mem_cons_of_mem _ hx)).1, (hok x (List.mem_cons_of_mem _ hx)).2⟩, by rw [List.length_cons] at hl; omega, hc, a, dqm hd 1 cap, updT f hd (vR none), dqm_lt hhd (by omega), ?q, hOa, ?a, fun i hi => ?f⟩⟩
    case e =>
      unfold n_J33_removeFirst n_J33_pollFirst n_J33_elementAt
      simp [gI, gR, gF, gobj, gcell, hq, asI, asR, gd, bn, grc, gclsOf, har, hsr, hln, hinc, pI, pF, gfit, sup_1, Ne.symm haq]
      rfl
    case s => exact A.1
    case r =>
      have h5 : b ≠ a := fun h => h3 (by rw [h]; exact hOa)
      simp [sup_1, h1, h5]
    case q =>
      have e2 : dqm hd (ys.length + 1) cap = dqm (dqm hd 1 cap) ys.length cap := by
        rw [List.length_cons] at hl
        unfold dqm
        split <;> split <;> split <;> omega
      simp [sup_1, e2]
    case a => simp [sup_1, haq]
    case f =>
      by_cases h1 : i + 1 < cap
      · have e3 : dqm (dqm hd 1 cap) i cap = dqm hd (i + 1) cap := by
          unfold dqm
          split <;> split <;> split <;> omega
        have e4 : dqm hd (i + 1) cap ≠ hd := by
          unfold dqm
          split <;> omega
        rw [e3]
        simp only [updT, if_neg e4]
        rw [hf (i + 1) h1]
        rfl
      · have e3 : dqm (dqm hd 1 cap) i cap = hd := by
          unfold dqm
          split <;> split <;> omega
        rw [e3]
        rw [List.length_cons] at hl
        simp only [updT, if_true]
        rw [List.getElem?_eq_none (by omega)]
        rfl
theorem hm_J33_removeFirst {S S1 : St} {a0 r : Option Nat} (h : h_J33_removeFirst S a0 = some (r, S1)) : S.2.1 ≤ S1.2.1 ∧ S.2.2.1 ≤ S1.2.2.1 := by
  obtain ⟨o, h1⟩ := hm_bind h
  obtain ⟨o, h2⟩ := hm_bind h1
  cases h2
  exact ⟨Nat.le_refl _, Nat.le_refl _⟩
/-! addLast -/
theorem dqf_up {xs : List (Option Nat)} {cap hd : Nat} {f : Nat → TV} (hf : dqf xs cap hd f) (hhd : hd < cap) (hl : xs.length < cap) (x : Option Nat) : dqf (xs ++ [x]) cap hd (updT f (dqm hd xs.length cap) (vR x)) := by
  intro i hi
  simp only [updT]
  by_cases h : i = xs.length
  · subst h
    rw [if_pos rfl, List.getElem?_append_right (Nat.le_refl _), Nat.sub_self]
    rfl
  · rw [if_neg (fun he => h (dqm_inj hhd hi hl he)), hf i hi]
    by_cases h2 : i < xs.length
    · rw [List.getElem?_append_left h2]
    · rw [List.getElem?_eq_none (by omega), List.getElem?_eq_none (by rw [List.length_append, List.length_singleton]; omega)]
theorem subm_e {n : Nat} (h : n < 100000) : nI n - (2147483639 : Int32) ≤ 0 := by
  have e1 : nI n - (2147483639 : Int32) = -nI (2147483639 - n) := by
    have e2 : (2147483639 : Int32) = nI n + nI (2147483639 - n) := by rw [nI_add, show n + (2147483639 - n) = 2147483639 by omega]; rfl
    rw [e2, ← Int32.sub_sub, Int32.sub_self, Int32.zero_sub]
  rw [e1]
  exact (sb_nle (a := 2147483639 - n) (b := 0) (by omega) (by omega)).mpr (Nat.zero_le _)
theorem nullL_e : ∀ (n i fu : Nat) (S : St) (a cap N : Nat) (f : Nat → TV), S.1 a = some (cA 4 cap f) → N ≤ cap → cap < 100000 → i + n = N → n < fu → ∃ S', n_J33_grow_b145 fu S (some a) (nI i) (nI N) = some ((), S') ∧ S'.2 = S.2 ∧ S'.1 a = some (cA 4 cap (fun j => if i ≤ j ∧ j < N then vR none else f j)) ∧ ∀ b, b ≠ a → S'.1 b = S.1 b
  | 0, i, fu + 1, S, a, cap, N, f, ha, hN, hc, hi, hf => by
    refine ⟨S, ?_, rfl, ?_, fun _ _ => rfl⟩
    · show (if nI N ≤ nI i then _ else _) = _
      rw [if_pos (nI_le (by omega) (by omega))]
    · rw [ha]
      have : f = fun j => if i ≤ j ∧ j < N then vR none else f j := by
        funext j
        rw [if_neg (by omega)]
      rw [← this]
  | n + 1, i, fu + 1, S, a, cap, N, f, ha, hN, hc, hi, hf => by
    have hs := sR_e (okst_none S 4) ha (i := i) (by omega) (by omega)
    obtain ⟨S', h1, h2, h3, h4⟩ := nullL_e n (i + 1) fu (sup S a (cA 4 cap (updT f i (vR none)))) a cap N (updT f i (vR none)) (sup_at _ _ _) hN hc (by omega) (by omega)
    refine ⟨S', ?_, h2, ?_, fun b hb => (h4 b hb).trans (sup_ne _ _ hb)⟩
    · show (if nI N ≤ nI i then _ else _) = _
      rw [if_neg (nI_ge (by omega) (by omega)), hs, Option.bind_some, ← nI_succ]
      exact h1
    · rw [h3]
      have : (fun j => if i + 1 ≤ j ∧ j < N then vR none else updT f i (vR none) j) = fun j => if i ≤ j ∧ j < N then vR none else f j := by
        funext j
        simp only [updT]
        by_cases h1 : i ≤ j ∧ j < N
        · rw [if_pos h1]
          by_cases h2 : j = i
          · subst h2; rw [if_neg (by omega), if_pos rfl]
          · rw [if_pos (by omega)]
        · rw [if_neg h1, if_neg (by omega), if_neg (by omega)]
      rw [this]
theorem okT_dq {S SL S' : St} {O : Nat → Option Nat} (A : Abs S SL O) {xs : List (Option Nat)} {cap hd : Nat} {f : Nat → TV} (hhd : hd < cap) (hf : dqf xs cap hd f) (h : ∀ x ∈ xs, okst S 4 x = true) (hs : ∀ q e, q < S.2.1 → SL.1 q = some e → gclsOf e ≠ 99 → ∃ e', S'.1 q = some e' ∧ gclsOf e' = gclsOf e) {j : Nat} (hj : j < cap) : okT S' (f j) = true := by
  obtain ⟨i, hi, rfl⟩ := dqm_sur hhd hj
  rw [hf i hi]
  exact okT_lo2 A h hs i
theorem dq_grown {xs : List (Option Nat)} {cap hd jump : Nat} {f : Nat → TV} (hf : dqf xs cap hd f) (hhd : hd < cap) (hl : xs.length = cap) : dqf xs (cap + jump) (hd + jump) (fun j => if hd ≤ j ∧ j < hd + jump then vR none else va_cpy (va_cpy f (alf []) 0 0 cap) (va_cpy f (alf []) 0 0 cap) hd (hd + jump) (cap - hd) j) := by
  intro i hi
  by_cases h1 : hd + jump + i < cap + jump
  · have e1 : dqm (hd + jump) i (cap + jump) = hd + jump + i := if_pos h1
    have e2 : dqm hd i cap = hd + i := if_pos (by omega)
    have h2 := hf i (by omega)
    rw [e2] at h2
    rw [e1, ← h2]
    refine (if_neg (by omega)).trans ?_
    simp only [va_cpy]
    rw [if_pos (by omega), if_pos (by omega), show 0 + (hd + (hd + jump + i - (hd + jump)) - 0) = hd + i by omega]
  · have e1 : dqm (hd + jump) i (cap + jump) = hd + jump + i - (cap + jump) := if_neg h1
    by_cases h3 : i < cap
    · have e2 : dqm hd i cap = hd + i - cap := if_neg (by omega)
      have h2 := hf i h3
      rw [e2] at h2
      rw [e1, ← h2]
      refine (if_neg (by omega)).trans ?_
      simp only [va_cpy]
      rw [if_neg (by omega), if_pos (by omega), show 0 + (hd + jump + i - (cap + jump) - 0) = hd + i - cap by omega]
    · rw [e1, List.getElem?_eq_none (by omega)]
      exact if_pos (by omega)
theorem dqgrow_e {S : St} {q a cap hd jump : Nat} {f : Nat → TV} {z : Nat} (hq : S.1 q = some (cO 14 [vR (some a), vI (nI hd), vI (nI hd)])) (ha : S.1 a = some (cA 4 cap f)) (hal : a < S.2.1) (hql : q < S.2.1) (hhd : hd < cap) (hc : cap < 10000) (hj0 : 0 < jump) (hj1 : jump ≤ cap + 2) (hj : (64 ≤ cap ∧ jump = cap / 2 ^ 1) ∨ (cap < 64 ∧ jump = cap + 2)) (hfh : f hd = vR (some z)) (hok : ∀ i, i < cap → okT (spu S (cA 4 (cap + jump) (fun _ => gdef 4)) (cap + jump)) (f i) = true) :
    ∃ S', n_J33_grow S (some q) 1 = some ((), S') ∧ S'.2 = (ssk S (cap + jump)).2 ∧ S'.1 q = some (cO 14 [vR (some S.2.1), vI (nI (hd + jump)), vI (nI hd)]) ∧ S'.1 S.2.1 = some (cA 4 (cap + jump) (fun j => if hd ≤ j ∧ j < hd + jump then vR none else va_cpy (va_cpy f (alf []) 0 0 cap) (va_cpy f (alf []) 0 0 cap) hd (hd + jump) (cap - hd) j)) ∧ ∀ b, b ≠ q → b < S.2.1 → S'.1 b = S.1 b := by
  have hqn : q ≠ S.2.1 := by omega
  have hco := copyOf_e (m := cap + jump) ha hal (by omega) (by omega) (by omega) hok
  have h21 : n_J33_grow S (some q) 1 = n_J33_grow_b21 S (some q) 1 (nI cap) (nI jump) := by
    unfold n_J33_grow
    have hln := aLn_e ha (Or.inl (by omega))
    rw [gR_e hq]
    show (aLn S (some a)).bind _ = _
    rw [hln, Option.bind_some]
    rcases hj with ⟨h1, rfl⟩ | ⟨h1, rfl⟩
    · rw [if_pos (show (64 : Int32) ≤ nI cap from nI_le (a := 64) h1 (by omega)), pk_shrN (by omega) _ 1 (by decide)]
    · rw [if_neg (show ¬ (64 : Int32) ≤ nI cap from nI_ge (b := 64) h1 (by omega)), show (2 : Int32) = nI 2 from rfl, nI_add]
  rw [h21]
  unfold n_J33_grow_b21
  have g1 : ¬ nI jump < 1 := nI_nlt (b := 1) hj0 (by omega)
  have g2 := subm_e (n := cap + jump) (by omega)
  rw [if_neg g1, nI_add, if_pos g2, gR_e hq]
  simp only [List.getElem?_cons_zero, Option.bind_some, asR]
  rw [bn_of hco]
  have hq1 : (spu S (cA 4 (cap + jump) (va_cpy f (alf []) 0 0 cap)) (cap + jump)).1 q = some (cO 14 [vR (some a), vI (nI hd), vI (nI hd)]) := by rw [spu_lt _ _ _ hql]; exact hq
  rw [pR_e hq1]
  have hq2 := sup_at (spu S (cA 4 (cap + jump) (va_cpy f (alf []) 0 0 cap)) (cap + jump)) q (cO 14 [vR (some S.2.1), vI (nI hd), vI (nI hd)])
  have hn2 : (sup (spu S (cA 4 (cap + jump) (va_cpy f (alf []) 0 0 cap)) (cap + jump)) q (cO 14 [vR (some S.2.1), vI (nI hd), vI (nI hd)])).1 S.2.1 = some (cA 4 (cap + jump) (va_cpy f (alf []) 0 0 cap)) := by rw [sup_ne _ _ (Ne.symm hqn), spu_at]
  generalize hT : sup (spu S (cA 4 (cap + jump) (va_cpy f (alf []) 0 0 cap)) (cap + jump)) q (cO 14 [vR (some S.2.1), vI (nI hd), vI (nI hd)]) = T at hq2 hn2
  have hT2 : T.2 = (ssk S (cap + jump)).2 := by rw [← hT]; rfl
  have hTr : ∀ b, b ≠ q → b < S.2.1 → T.1 b = S.1 b := fun b h1 h2 => by rw [← hT, sup_ne _ _ h1, spu_lt _ _ _ h2]
  have hF0 : va_cpy f (alf []) 0 0 cap hd = vR (some z) := by
    simp only [va_cpy]
    rw [if_pos (by omega), show 0 + (hd - 0) = hd by omega, hfh]
  have har := aR_e hn2 (i := hd) (by omega) (by omega) hF0
  have hle : ([vR (some a), vI (nI hd), vI (nI hd)].set 0 (vR (some S.2.1))) = [vR (some S.2.1), vI (nI hd), vI (nI hd)] := rfl
  rw [hle, hT, if_pos (show 0 < [vR (some a), vI (nI hd), vI (nI hd)].length from Nat.zero_lt_succ _), Option.bind_some, gI_e hq2, gI_e hq2]
  simp only [List.getElem?_cons_zero, List.getElem?_cons_succ, Option.bind_some, asI]
  rw [if_neg (Int32.lt_irrefl), if_true, har, Option.bind_some, if_neg (by simp)]
  unfold n_J33_grow_b96
  rw [gI_e hq2]
  simp only [List.getElem?_cons_zero, List.getElem?_cons_succ, Option.bind_some, asI]
  rw [pk_sub (by omega : cap ≤ cap + jump), pk_sub (by omega : hd ≤ cap), nI_add, show cap + jump - cap = jump by omega]
  have hac := acp_e (s := hd) (d := hd + jump) (k := cap - hd) hn2 hn2 (by omega) (by omega) (by omega) (by omega) fun i hi => by
    have e1 : va_cpy f (alf []) 0 0 cap (hd + i) = f (hd + i) := by
      simp only [va_cpy]
      rw [if_pos (by omega), show 0 + (hd + i - 0) = hd + i by omega]
    rw [e1]
    refine okT_up (hok (hd + i) (by omega)) fun b e he h9 => ?_
    by_cases hb : b = S.2.1
    · subst hb
      rw [spu_at] at he
      cases he
      exact absurd rfl h9
    · have hbl : (spu S (cA 4 (cap + jump) fun _ => gdef 4) (cap + jump)).1 b = S.1 b := by simp only [spu]; rw [if_neg hb]
      rw [hbl] at he
      by_cases hbq : b = q
      · subst hbq
        cases hq.symm.trans he
        exact ⟨_, hq2, rfl⟩
      · exact ⟨e, by rw [← hT, sup_ne _ _ hbq]; simp only [spu]; rw [if_neg hb]; exact he, rfl⟩
  rw [hac, Option.bind_some]
  have hq3 : (sup T S.2.1 (cA 4 (cap + jump) (va_cpy (va_cpy f (alf []) 0 0 cap) (va_cpy f (alf []) 0 0 cap) hd (hd + jump) (cap - hd)))).1 q = some (cO 14 [vR (some S.2.1), vI (nI hd), vI (nI hd)]) := by rw [sup_ne _ _ hqn]; exact hq2
  rw [gI_e hq3]
  simp only [List.getElem?_cons_zero, List.getElem?_cons_succ, Option.bind_some, asI]
  rw [pI_e hq3, nI_add]
  rw [if_pos (show 1 < [vR (some S.2.1), vI (nI hd), vI (nI hd)].length from Nat.succ_lt_succ (Nat.zero_lt_succ _)), Option.bind_some]
  have hle2 : ([vR (some S.2.1), vI (nI hd), vI (nI hd)].set 1 (vI (nI (hd + jump)))) = [vR (some S.2.1), vI (nI (hd + jump)), vI (nI hd)] := rfl
  rw [hle2]
  obtain ⟨S', h1, h2, h3, h4⟩ := nullL_e jump hd FU (sup (sup T S.2.1 (cA 4 (cap + jump) (va_cpy (va_cpy f (alf []) 0 0 cap) (va_cpy f (alf []) 0 0 cap) hd (hd + jump) (cap - hd)))) q (cO 14 [vR (some S.2.1), vI (nI (hd + jump)), vI (nI hd)])) S.2.1 (cap + jump) (hd + jump) _ (by rw [sup_ne _ _ (Ne.symm hqn), sup_at]) (by omega) (by omega) rfl (by unfold FU; omega)
  exact ⟨S', h1, h2.trans hT2, by rw [h4 q hqn, sup_at], h3, fun b g1 g2 => by rw [h4 b (by omega), sup_ne _ _ g1, sup_ne _ _ (by omega), hTr b g1 g2]⟩
theorem ab_J33_addLast {S SL S1 : St} {O : Nat → Option Nat} {a0 x : Option Nat} {r : Unit} (h : h_J33_addLast S a0 x = some (r, S1)) (A : Abs S SL O) : ∃ SL' O', n_J33_addLast SL a0 x = some (r, SL') ∧ Abs S1 SL' O' := by
  obtain ⟨⟨q, cap, xs⟩, ho, hb1⟩ := Option.bind_eq_some_iff.mp h
  obtain ⟨rfl, hS⟩ := gdqc_s ho
  simp only at hb1
  split at hb1
  case isFalse => cases hb1
  next hg =>
  obtain ⟨hx, hxs, hlen⟩ := hg
  cases hb1
  obtain ⟨y, rfl⟩ := Option.isSome_iff_exists.mp hxs
  obtain ⟨hok, hl, hc, a, hd, f, hhd, hq, hOa, ha, hf⟩ := (A.2.2.2 q _ hS).2
  have hql := (A.2.2.2 q _ hS).1
  have hsz : SL.2.1 = S.2.1 := by rw [A.1]
  have haq : a ≠ q := fun h => by rw [h, hq] at ha; cases ha
  have hal := (A.2.2.1 a q hOa).2
  have htl := dqm_lt hhd (i := xs.length) (by omega)
  have hsr := sR_e (okst_lo A hx) ha htl (by omega)
  have hinc := inc_e (sup SL a (cA 4 cap (updT f (dqm hd xs.length cap) (vR (some y))))) htl hc
  have hln := aLn_e (S := sup SL a (cA 4 cap (updT f (dqm hd xs.length cap) (vR (some y))))) (sup_at _ _ _) (Or.inl (by omega : 4 < 6))
  have hdd : dqm (dqm hd xs.length cap) 1 cap = dqm hd (xs.length + 1) cap := by
    unfold dqm
    split <;> split <;> split <;> omega
  rw [hdd] at hinc
  have hfu := dqf_up hf hhd hl (some y)
  have hdl := dqm_lt hhd (i := xs.length + 1) (by omega)
  have hlx : (xs ++ [some y]).length = xs.length + 1 := by rw [List.length_append, List.length_singleton]
  have hok2 : ∀ x ∈ xs ++ [some y], okst S 4 x = true ∧ x.isSome = true := fun x hx2 => by
    rcases List.mem_append.mp hx2 with h3 | h3
    · exact hok x h3
    · rw [List.mem_singleton.mp h3]; exact ⟨hx, rfl⟩
  have hst : n_J33_addLast SL (some q) (some y) = if nI hd = nI (dqm hd (xs.length + 1) cap) then gd (grc (sup (sup SL a (cA 4 cap (updT f (dqm hd xs.length cap) (vR (some y))))) q (cO 14 [vR (some a), vI (nI hd), vI (nI (dqm hd (xs.length + 1) cap))])) (some q) 14) (bn (n_J33_grow (sup (sup SL a (cA 4 cap (updT f (dqm hd xs.length cap) (vR (some y))))) q (cO 14 [vR (some a), vI (nI hd), vI (nI (dqm hd (xs.length + 1) cap))])) (some q) (1 : Int32)) fun _ S10 => some ((), S10)) else some ((), sup (sup SL a (cA 4 cap (updT f (dqm hd xs.length cap) (vR (some y))))) q (cO 14 [vR (some a), vI (nI hd), vI (nI (dqm hd (xs.length + 1) cap))])) := by
    unfold n_J33_addLast
    simp [gI, gR, gF, gobj, gcell, hq, asI, asR, hsr, sup_1, Ne.symm haq, hln, bn, hinc, pI, pF, gfit, gd, grc, gclsOf]
  rw [hst]
  by_cases hn : xs.length + 1 < cap
  · have hne : ¬ nI hd = nI (dqm hd (xs.length + 1) cap) := fun h => by
      have := (nI_eq (by omega) (by omega)).mp h
      unfold dqm at this
      split at this <;> omega
    have hcap : dqcap cap xs.length = cap := if_pos hn
    rw [if_neg hne, hcap]
    simp only [if_pos hn]
    refine ⟨_, O, rfl, Abs_up A hS (S' := sup S q (cDQ cap (xs ++ [some y]))) (e' := cDQ cap (xs ++ [some y])) rfl (fun _ => rfl) A.1 rfl (Nat.le_refl _) (fun b h1 h3 _ => ?r) (fun _ _ _ => rfl) (fun b c h => Or.inl ⟨h, (A.2.2.1 b c h).2⟩) ⟨fun x hx => ⟨okst_sup hS (e' := cDQ cap (xs ++ [some y])) rfl (hok2 x hx).1, (hok2 x hx).2⟩, by omega, hc, a, hd, _, hhd, ?q, hOa, ?a, hfu⟩⟩
    case r =>
      have h5 : b ≠ a := fun h => h3 (by rw [h]; exact hOa)
      simp [sup_1, h1, h5]
    case q => rw [sup_at, hlx]
    case a => rw [sup_ne _ _ haq, sup_at]
  · have hcl : cap = xs.length + 1 := by omega
    have heq : dqm hd (xs.length + 1) cap = hd := by
      unfold dqm
      rw [if_neg (by omega)]
      omega
    rw [heq, if_pos rfl]
    have hcap : ∃ jump, 0 < jump ∧ jump ≤ cap + 2 ∧ dqcap cap xs.length = cap + jump ∧ ((64 ≤ cap ∧ jump = cap / 2 ^ 1) ∨ (cap < 64 ∧ jump = cap + 2)) := by
      unfold dqcap
      rw [if_neg hn]
      by_cases h6 : cap < 64
      · exact ⟨cap + 2, by omega, by omega, if_pos h6, Or.inr ⟨h6, rfl⟩⟩
      · exact ⟨cap / 2, by omega, by omega, if_neg h6, Or.inl ⟨by omega, rfl⟩⟩
    obtain ⟨jump, hj0, hj1, hj2, hj3⟩ := hcap
    simp only [if_neg hn]
    rw [hj2]
    have hf0 : updT f (dqm hd xs.length cap) (vR (some y)) hd = vR (((xs ++ [some y])[0]?).getD none) := by
      have := hfu 0 (by omega)
      rw [show dqm hd 0 cap = hd by unfold dqm; rw [if_pos (by omega)]; omega] at this
      exact this
    obtain ⟨z, hz⟩ : ∃ z, ((xs ++ [some y])[0]?).getD none = some z := by
      have h8 : (xs ++ [some y])[0]? = some (xs ++ [some y])[0] := List.getElem?_eq_getElem (by omega)
      rw [h8]
      exact Option.isSome_iff_exists.mp (hok2 _ (List.getElem_mem _)).2
    rw [hz] at hf0
    obtain ⟨S', g1, g2, g3, g4, g5⟩ := dqgrow_e (S := sup (sup SL a (cA 4 cap (updT f (dqm hd xs.length cap) (vR (some y))))) q (cO 14 [vR (some a), vI (nI hd), vI (nI hd)])) (q := q) (a := a) (cap := cap) (jump := jump) (sup_at _ _ _) (by rw [sup_ne _ _ haq, sup_at]) (by show a < SL.2.1; omega) (by show q < SL.2.1; omega) hhd hc hj0 hj1 hj3 hf0 (fun i hi => okT_dq A hhd hfu (fun x hx => (hok2 x hx).1) (fun b e hb he h9 => by
      rw [spu_lt _ _ _ (by show b < SL.2.1; omega)]
      by_cases hbq : b = q
      · subst hbq
        cases hq.symm.trans he
        exact ⟨_, sup_at _ _ _, rfl⟩
      · rw [sup_ne _ _ hbq]
        by_cases hba : b = a
        · subst hba
          cases ha.symm.trans he
          exact absurd rfl h9
        · exact ⟨e, by rw [sup_ne _ _ hba]; exact he, rfl⟩) hi)
    have g3' : S'.1 q = some (cO 14 [vR (some S.2.1), vI (nI (hd + jump)), vI (nI hd)]) := by rw [← hsz]; exact g3
    refine ⟨S', fO O S q, ?_, Abs_fresh A hS (e' := cDQ (cap + jump) (xs ++ [some y])) rfl (g2.trans (by simp only [ssk, sup, A.1])) (fun b h1 h3 h4 => ?_) ⟨fun x hx => ⟨okst_sup hS (e' := cDQ (cap + jump) (xs ++ [some y])) rfl (hok2 x hx).1, (hok2 x hx).2⟩, by omega, by omega, S.2.1, hd + jump, _, by omega, ?_, if_pos rfl, by rw [← hsz]; exact g4, dq_grown hfu hhd (by omega)⟩⟩
    · rw [grc_e (sup_at _ _ _), g1]
      rfl
    · have h5 : b ≠ a := fun h => h3 (by rw [h]; exact hOa)
      rw [g5 b h1 (by show b < SL.2.1; omega), sup_ne _ _ h1, sup_ne _ _ h5]
    · rw [g3', hlx]
      have : dqm (hd + jump) (xs.length + 1) (cap + jump) = hd := by
        unfold dqm
        rw [if_neg (by omega)]
        omega
      rw [this]
theorem hm_J33_addLast {S S1 : St} {a0 x : Option Nat} {r : Unit} (h : h_J33_addLast S a0 x = some (r, S1)) : S.2.1 ≤ S1.2.1 ∧ S.2.2.1 ≤ S1.2.2.1 := by
  obtain ⟨o, h1⟩ := hm_bind h
  split at h1
  · cases h1
    split
    · exact ⟨Nat.le_refl _, Nat.le_refl _⟩
    · exact ⟨Nat.le_succ _, Nat.le_add_right _ _⟩
  · cases h1
theorem ab_J33_add {S SL S1 : St} {O : Nat → Option Nat} {a0 x : Option Nat} {r : Int32} (h : h_J33_add S a0 x = some (r, S1)) (A : Abs S SL O) : ∃ SL' O', n_J33_add SL a0 x = some (r, SL') ∧ Abs S1 SL' O' := by
  obtain ⟨⟨u, S2⟩, h1, h2⟩ := Option.bind_eq_some_iff.mp h
  cases h2
  obtain ⟨SL', O', g1, g2⟩ := ab_J33_addLast h1 A
  obtain ⟨⟨q, cap, xs⟩, ho, hb1⟩ := Option.bind_eq_some_iff.mp h1
  obtain ⟨rfl, hS⟩ := gdqc_s ho
  obtain ⟨-, -, -, a, hd, f, -, hq, -⟩ := (A.2.2.2 q _ hS).2
  refine ⟨SL', O', ?_, g2⟩
  unfold n_J33_add
  rw [grc_e hq, g1]
  rfl
theorem hm_J33_add {S S1 : St} {a0 x : Option Nat} {r : Int32} (h : h_J33_add S a0 x = some (r, S1)) : S.2.1 ≤ S1.2.1 ∧ S.2.2.1 ≤ S1.2.2.1 := by
  obtain ⟨⟨u, S2⟩, h1, h2⟩ := Option.bind_eq_some_iff.mp h
  cases h2
  exact hm_J33_addLast h1
/-! contains -/
theorem scan_e {S : St} {a x1 cap : Nat} {f : Nat → TV} (ha : S.1 a = some (cA 4 cap f)) (hc : cap < 10000) (hg : grc S (some x1) 1 = true) (hf : ∀ j, j < cap → ∃ r, f j = vR r) (en : Nat) (hen : en ≤ cap) : ∀ (n i fu to_ : Nat), i + n = to_ → to_ ≤ cap → n < fu →
    ((∃ j, i ≤ j ∧ j < to_ ∧ f j = vR (some x1)) ∧ n_J33_contains_b35 fu S (some x1) (some a) (nI i) (nI en) (nI to_) = some (1, S)) ∨ ((¬ ∃ j, i ≤ j ∧ j < to_ ∧ f j = vR (some x1)) ∧ n_J33_contains_b35 fu S (some x1) (some a) (nI i) (nI en) (nI to_) = if to_ = en then some (0, S) else n_J33_contains_b35 (fu - n - 1) S (some x1) (some a) 0 (nI en) (nI en))
  | 0, i, fu + 1, to_, hi, ht, hfu => by
    have h1 : ¬ ∃ j, i ≤ j ∧ j < to_ ∧ f j = vR (some x1) := fun ⟨j, h1, h2, h3⟩ => by omega
    refine Or.inr ⟨h1, ?_⟩
    have e1 : nI to_ ≤ nI i := nI_le (by omega) (by omega)
    have e2 : nI to_ = nI en ↔ to_ = en := nI_eq (by omega) (by omega)
    simp only [n_J33_contains_b35, if_pos e1, e2]
    rfl
  | n + 1, i, fu + 1, to_, hi, ht, hfu => by
    obtain ⟨r, hr⟩ := hf i (by omega)
    have har := aR_e ha (i := i) (by omega) (by omega) hr
    have e1 : ¬ nI to_ ≤ nI i := nI_ge (by omega) (by omega)
    simp only [n_J33_contains_b35, if_neg e1, har, Option.bind_some, hg, gd, if_true, n_J35_equals]
    by_cases he : some x1 = r
    · rw [if_pos he]
      exact Or.inl ⟨⟨i, Nat.le_refl _, by omega, by rw [hr, he]⟩, rfl⟩
    · rw [if_neg he]
      have ih := scan_e ha hc hg hf en hen n (i + 1) fu to_ (by omega) ht (by omega)
      have h2 : (∃ j, i + 1 ≤ j ∧ j < to_ ∧ f j = vR (some x1)) ↔ ∃ j, i ≤ j ∧ j < to_ ∧ f j = vR (some x1) := by
        constructor
        · rintro ⟨j, h1, h2, h3⟩
          exact ⟨j, by omega, h2, h3⟩
        · rintro ⟨j, h1, h2, h3⟩
          refine ⟨j, Nat.lt_of_le_of_ne h1 fun h => he ?_, h2, h3⟩
          subst h
          rw [hr] at h3
          cases h3
          rfl
      rw [h2, nI_succ] at ih
      rw [show fu + 1 - (n + 1) - 1 = fu - n - 1 by omega]
      exact ih
theorem ab_J33_contains {S SL S1 : St} {O : Nat → Option Nat} {a0 x : Option Nat} {r : Int32} (h : h_J33_contains S a0 x = some (r, S1)) (A : Abs S SL O) : ∃ SL' O', n_J33_contains SL a0 x = some (r, SL') ∧ Abs S1 SL' O' := by
  obtain ⟨⟨q, cap, xs⟩, ho, hb1⟩ := Option.bind_eq_some_iff.mp h
  obtain ⟨rfl, hS⟩ := gdqc_s ho
  simp only at hb1
  split at hb1
  case isFalse => cases hb1
  next hg =>
  cases hb1
  obtain ⟨x1, e1, rfl, -, -⟩ := grc_some hg
  have hgl := grc_lo A hg
  obtain ⟨hok, hl, hc, a, hd, f, hhd, hq, hOa, ha, hf⟩ := (A.2.2.2 q _ hS).2
  have htl := dqm_lt hhd (i := xs.length) (by omega)
  have hfr : ∀ j, j < cap → ∃ r, f j = vR r := fun j hj => by
    obtain ⟨i, hi, rfl⟩ := dqm_sur hhd hj
    exact ⟨_, hf i hi⟩
  have hln := aLn_e ha (Or.inl (by omega))
  have e3 : nI (dqm hd xs.length cap) < nI hd ↔ dqm hd xs.length cap < hd := nI_ltI (by omega) (by omega)
  have hm : ∀ i, i < cap → (f (dqm hd i cap) = vR (some x1) ↔ i < xs.length ∧ xs[i]? = some (some x1)) := fun i hi => by
    rw [hf i hi]
    by_cases h1 : i < xs.length
    · rw [List.getElem?_eq_getElem h1]
      simp [h1]
    · rw [List.getElem?_eq_none (by omega)]
      simp
  have hmem : some x1 ∈ xs ↔ ∃ j, j < cap ∧ f j = vR (some x1) := by
    rw [List.mem_iff_getElem?]
    constructor
    · rintro ⟨i, hi⟩
      have hil := (List.getElem?_eq_some_iff.mp hi).1
      exact ⟨dqm hd i cap, dqm_lt hhd (by omega), (hm i (by omega)).mpr ⟨hil, hi⟩⟩
    · rintro ⟨j, hj, h1⟩
      obtain ⟨i, hi, rfl⟩ := dqm_sur hhd hj
      exact ⟨i, ((hm i hi).mp h1).2⟩
  have hin : ∀ j, j < cap → f j = vR (some x1) → (hd ≤ j ∧ j < hd + xs.length) ∨ (j < hd ∧ j + cap < hd + xs.length) := fun j hj h1 => by
    obtain ⟨i, hi, rfl⟩ := dqm_sur hhd hj
    have h2 := ((hm i hi).mp h1).1
    unfold dqm
    split <;> omega
  refine ⟨SL, O, ?_, A⟩
  have hst : n_J33_contains SL (some q) (some x1) = n_J33_contains_b35 FU SL (some x1) (some a) (nI hd) (nI (dqm hd xs.length cap)) (nI (if dqm hd xs.length cap < hd then cap else dqm hd xs.length cap)) := by
    unfold n_J33_contains n_J33_contains_b33
    simp [gI, gR, gF, gobj, gcell, hq, asI, asR, hln, e3]
    split <;> rfl
  rw [hst]
  by_cases hw : dqm hd xs.length cap < hd
  · rw [if_pos hw]
    have hw2 : dqm hd xs.length cap = hd + xs.length - cap ∧ cap ≤ hd + xs.length := by
      unfold dqm at hw ⊢
      split at hw
      · omega
      · next h5 => rw [if_neg h5]; omega
    rcases scan_e ha hc hgl hfr (dqm hd xs.length cap) (by omega) (cap - hd) hd FU cap (by omega) (Nat.le_refl _) (by unfold FU; omega) with ⟨⟨j, g1, g2, g3⟩, hs⟩ | ⟨h1, hs⟩
    · rw [hs, if_pos (hmem.mpr ⟨j, g2, g3⟩)]
    · rw [hs, if_neg (by omega)]
      rcases scan_e ha hc hgl hfr (dqm hd xs.length cap) (by omega) (dqm hd xs.length cap) 0 (FU - (cap - hd) - 1) (dqm hd xs.length cap) (by omega) (by omega) (by unfold FU; omega) with ⟨⟨j, g1, g2, g3⟩, hs2⟩ | ⟨h2, hs2⟩
      · rw [nI_0] at hs2
        rw [hs2, if_pos (hmem.mpr ⟨j, by omega, g3⟩)]
      · rw [nI_0] at hs2
        rw [hs2, if_pos rfl, if_neg fun h3 => ?_]
        obtain ⟨j, g1, g2⟩ := hmem.mp h3
        rcases hin j g1 g2 with g3 | g3
        · exact h1 ⟨j, g3.1, g1, g2⟩
        · exact h2 ⟨j, Nat.zero_le _, by omega, g2⟩
  · rw [if_neg hw]
    have hw2 : dqm hd xs.length cap = hd + xs.length := by
      unfold dqm at hw ⊢
      split at hw
      · next h5 => rw [if_pos h5]
      · omega
    rcases scan_e ha hc hgl hfr (dqm hd xs.length cap) (by omega) xs.length hd FU (dqm hd xs.length cap) (by omega) (by omega) (by unfold FU; omega) with ⟨⟨j, g1, g2, g3⟩, hs⟩ | ⟨h1, hs⟩
    · rw [hs, if_pos (hmem.mpr ⟨j, by omega, g3⟩)]
    · rw [hs, if_pos rfl, if_neg fun h3 => ?_]
      obtain ⟨j, g1, g2⟩ := hmem.mp h3
      rcases hin j g1 g2 with g3 | g3
      · exact h1 ⟨j, g3.1, by omega, g2⟩
      · omega
theorem hm_J33_contains {S S1 : St} {a0 x : Option Nat} {r : Int32} (h : h_J33_contains S a0 x = some (r, S1)) : S.2.1 ≤ S1.2.1 ∧ S.2.2.1 ≤ S1.2.2.1 := by
  obtain ⟨o, h1⟩ := hm_bind h
  split at h1
  · cases h1
    exact ⟨Nat.le_refl _, Nat.le_refl _⟩
  · cases h1
