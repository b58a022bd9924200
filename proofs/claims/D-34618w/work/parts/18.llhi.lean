/-! LinkedList over the high heap -/
theorem gllc_s {S : St} {r : Option Nat} {q : Nat} {md : Int32} {ns : List (Nat × Option Nat)} (h : gllc S r = some (q, md, ns)) : r = some q ∧ S.1 q = some (cLL md ns) := by
  unfold gllc at h
  split at h
  · next q md ns hc => cases h; exact gcell_some hc
  · cases h
theorem lladr_at {ns : List (Nat × Option Nat)} {i a : Nat} {x : Option Nat} (h : ns[i]? = some (a, x)) : lladr ns i = some a := by simp only [lladr, h]; rfl
theorem lladr_ge {ns : List (Nat × Option Nat)} {i : Nat} (h : ns.length ≤ i) : lladr ns i = none := by simp only [lladr, List.getElem?_eq_none h]; rfl
theorem ll_get {ns : List (Nat × Option Nat)} {i : Nat} (h : i < ns.length) : ∃ a x, ns[i]? = some (a, x) := ⟨(ns[i]).1, (ns[i]).2, List.getElem?_eq_getElem h⟩
theorem ll_inj {ns : List (Nat × Option Nat)} (nd : (ns.map (·.1)).Nodup) {i j a : Nat} {x y : Option Nat} (hi : ns[i]? = some (a, x)) (hj : ns[j]? = some (a, y)) : i = j := by
  have h1 : (ns.map (·.1))[i]? = some a := by rw [List.getElem?_map, hi]; rfl
  have h2 : (ns.map (·.1))[j]? = some a := by rw [List.getElem?_map, hj]; rfl
  exact (List.getElem?_inj (List.getElem?_eq_some_iff.mp h1).1 nd).mp (h1.trans h2.symm)
theorem ll_ne {ns : List (Nat × Option Nat)} (nd : (ns.map (·.1)).Nodup) {i j a b : Nat} {x y : Option Nat} (hi : ns[i]? = some (a, x)) (hj : ns[j]? = some (b, y)) (h : i ≠ j) : a ≠ b := fun e => h (ll_inj nd hi (e ▸ hj))
/-- the plain heap after the k-th node has gone -/
def LLrem (SL SL' : St) (O : Nat → Option Nat) (q : Nat) (md : Int32) (ns : List (Nat × Option Nat)) (k : Nat) : Prop :=
  SL'.2 = SL.2 ∧ SL'.1 q = some (cO 9 [vI (md + 1), vI (nI (ns.length - 1)), vR (lladr (ns.eraseIdx k) 0), vR (lladr (ns.eraseIdx k) (ns.length - 1 - 1))]) ∧
  (∀ i a x, i ≠ k → ns[i]? = some (a, x) → SL'.1 a = some (cO 11 [vR x, vR (if i + 1 = k then lladr ns (k + 1) else lladr ns (i + 1)), vR (if i = k + 1 then (if k = 0 then none else lladr ns (k - 1)) else if i = 0 then none else lladr ns (i - 1))])) ∧
  ∀ b, b ≠ q → O b ≠ some q → SL'.1 b = SL.1 b
theorem lladr_erase (ns : List (Nat × Option Nat)) (k i : Nat) : lladr (ns.eraseIdx k) i = if i < k then lladr ns i else lladr ns (i + 1) := by
  simp only [lladr, List.getElem?_eraseIdx]
  split <;> rfl
theorem ll_nxt (ns : List (Nat × Option Nat)) {i k : Nat} (h : i < k) : (if i + 1 = k then lladr ns (k + 1) else lladr ns (i + 1)) = lladr (ns.eraseIdx k) (i + 1) := by
  rw [lladr_erase]
  by_cases h1 : i + 1 = k
  · rw [if_pos h1, if_neg (by omega), h1]
  · rw [if_neg h1, if_pos (by omega)]
theorem ll_prv (ns : List (Nat × Option Nat)) {i k : Nat} (h : i < k) : (if i = k + 1 then (if k = 0 then none else lladr ns (k - 1)) else if i = 0 then none else lladr ns (i - 1)) = if i = 0 then none else lladr (ns.eraseIdx k) (i - 1) := by
  rw [lladr_erase, if_neg (by omega : ¬ i = k + 1)]
  by_cases h1 : i = 0
  · rw [if_pos h1, if_pos h1]
  · rw [if_neg h1, if_neg h1, if_pos (by omega)]
theorem ll_nxt2 (ns : List (Nat × Option Nat)) {i k : Nat} (h : k ≤ i) : (if i + 1 + 1 = k then lladr ns (k + 1) else lladr ns (i + 1 + 1)) = lladr (ns.eraseIdx k) (i + 1) := by
  rw [lladr_erase, if_neg (by omega), if_neg (by omega)]
theorem ll_prv2 (ns : List (Nat × Option Nat)) {i k : Nat} (h : k ≤ i) : (if i + 1 = k + 1 then (if k = 0 then none else lladr ns (k - 1)) else if i + 1 = 0 then none else lladr ns (i + 1 - 1)) = if i = 0 then none else lladr (ns.eraseIdx k) (i - 1) := by
  rw [lladr_erase]
  by_cases h1 : i = k
  · subst h1
    rw [if_pos rfl]
    by_cases h2 : i = 0
    · rw [if_pos h2, if_pos h2]
    · rw [if_neg h2, if_neg h2, if_pos (by omega)]
  · rw [if_neg (by omega), if_neg (by omega), if_neg (by omega : ¬ i = 0), if_neg (by omega)]
    rw [show i + 1 - 1 = i - 1 + 1 by omega]
theorem Abs_llrem {S SL SL' : St} {O : Nat → Option Nat} {q k : Nat} {md : Int32} {ns : List (Nat × Option Nat)} (A : Abs S SL O) (hS : S.1 q = some (cLL md ns)) (hk : k < ns.length) (R : LLrem SL SL' O q md ns k) : Abs (sup S q (cLL (md + 1) (ns.eraseIdx k))) SL' O := by
  obtain ⟨r1, r2, r3, r4⟩ := R
  obtain ⟨hq, nd, hn⟩ := (A.2.2.2 q _ hS).2
  have hle : (ns.eraseIdx k).length = ns.length - 1 := List.length_eraseIdx_of_lt hk
  refine Abs_up A hS (e' := cLL (md + 1) (ns.eraseIdx k)) rfl (fun _ => rfl) (r1.trans A.1) rfl (Nat.le_refl _) (fun b h1 h3 _ => r4 b h1 h3) (fun _ _ _ => rfl) (fun b c h => Or.inl ⟨h, (A.2.2.1 b c h).2⟩) ⟨?_, ?_, fun i a x hi => ?_⟩
  · rw [r2, hle]
  · exact nd.sublist ((List.eraseIdx_sublist ns k).map _)
  · rw [List.getElem?_eraseIdx] at hi
    split at hi
    · next h =>
      refine ⟨(hn i a x hi).1, ?_⟩
      rw [r3 i a x (by omega) hi, ll_nxt ns h, ll_prv ns h]
    · next h =>
      refine ⟨(hn _ a x hi).1, ?_⟩
      rw [r3 _ a x (by omega) hi, ll_nxt2 ns (by omega), ll_prv2 ns (by omega)]
/-- the neighbours' cells and the list's own cell, then all the rest -/
theorem LLrem_of {S SL SL' : St} {O : Nat → Option Nat} {q k a : Nat} {md : Int32} {ns : List (Nat × Option Nat)} {x : Option Nat} (A : Abs S SL O) (hS : S.1 q = some (cLL md ns)) (hk : ns[k]? = some (a, x)) (h2 : SL'.2 = SL.2) (hq : SL'.1 q = some (cO 9 [vI (md + 1), vI (nI (ns.length - 1)), vR (if k = 0 then lladr ns 1 else lladr ns 0), vR (if k + 1 = ns.length then (if k = 0 then none else lladr ns (k - 1)) else lladr ns (ns.length - 1))]))
    (hp : ∀ b y, ns[k - 1]? = some (b, y) → 0 < k → SL'.1 b = some (cO 11 [vR y, vR (lladr ns (k + 1)), vR (if k - 1 = 0 then none else lladr ns (k - 1 - 1))]))
    (hx : ∀ b y, ns[k + 1]? = some (b, y) → SL'.1 b = some (cO 11 [vR y, vR (lladr ns (k + 1 + 1)), vR (if k = 0 then none else lladr ns (k - 1))]))
    (hr : ∀ b, b ≠ q → b ≠ a → (k = 0 ∨ lladr ns (k - 1) ≠ some b) → lladr ns (k + 1) ≠ some b → SL'.1 b = SL.1 b) : LLrem SL SL' O q md ns k := by
  obtain ⟨hq0, nd, hn⟩ := (A.2.2.2 q _ hS).2
  have hkl : k < ns.length := (List.getElem?_eq_some_iff.mp hk).1
  refine ⟨h2, ?_, fun i b y hi hb => ?_, fun b h1 h3 => ?_⟩
  · rw [hq, lladr_erase, lladr_erase]
    have e1 : (if k = 0 then lladr ns 1 else lladr ns 0) = if 0 < k then lladr ns 0 else lladr ns (0 + 1) := by
      by_cases h : k = 0
      · rw [if_pos h, if_neg (by omega)]
      · rw [if_neg h, if_pos (by omega)]
    have e2 : (if k + 1 = ns.length then (if k = 0 then none else lladr ns (k - 1)) else lladr ns (ns.length - 1)) = if ns.length - 1 - 1 < k then lladr ns (ns.length - 1 - 1) else lladr ns (ns.length - 1 - 1 + 1) := by
      by_cases h : k + 1 = ns.length
      · rw [if_pos h]
        by_cases h0 : k = 0
        · subst h0
          rw [if_pos rfl, if_neg (by omega), lladr_ge (by omega)]
        · rw [if_neg h0, if_pos (by omega), show ns.length - 1 - 1 = k - 1 by omega]
      · rw [if_neg h, if_neg (by omega), show ns.length - 1 - 1 + 1 = ns.length - 1 by omega]
    rw [e1, e2]
  · by_cases h1 : i + 1 = k
    · rw [if_pos h1, if_neg (by omega)]
      have := hp b y (by rw [show k - 1 = i by omega]; exact hb) (by omega)
      rw [this, show k - 1 = i by omega]
    · rw [if_neg h1]
      by_cases h2 : i = k + 1
      · subst h2
        rw [if_pos rfl]
        exact hx b y hb
      · rw [if_neg h2, hr b (fun h => by have h5 := (hn i b y hb).2; rw [h, hq0] at h5; cases h5) (ll_ne nd hb hk hi) ?_ ?_]
        · exact (hn i b y hb).2
        · by_cases h0 : k = 0
          · exact Or.inl h0
          · refine Or.inr fun h => ?_
            obtain ⟨c, z, hc⟩ := ll_get (ns := ns) (i := k - 1) (by omega)
            rw [lladr_at hc] at h
            cases h
            exact absurd (ll_inj nd hb hc) (by omega)
        · intro h
          by_cases h4 : k + 1 < ns.length
          · obtain ⟨c, z, hc⟩ := ll_get h4
            rw [lladr_at hc] at h
            cases h
            exact absurd (ll_inj nd hb hc) (by omega)
          · rw [lladr_ge (by omega)] at h; cases h
  · have hno : ∀ j, lladr ns j ≠ some b := fun j h => by
      cases hj : ns[j]? with
      | none => simp only [lladr, hj] at h; cases h
      | some p =>
        rw [lladr_at (a := p.1) (x := p.2) hj] at h
        exact h3 (by cases h; exact (hn j p.1 p.2 hj).1)
    exact hr b h1 (fun h => h3 (by rw [h]; exact (hn k a x hk).1)) (Or.inr (hno _)) (hno _)
theorem unlink_e {S SL : St} {O : Nat → Option Nat} {q k a : Nat} {md : Int32} {ns : List (Nat × Option Nat)} {x : Option Nat} (A : Abs S SL O) (hS : S.1 q = some (cLL md ns)) (hk : ns[k]? = some (a, x)) : ∃ SL', n_J4_unlink SL (some q) (some a) = some (x, SL') ∧ LLrem SL SL' O q md ns k := by
  obtain ⟨hq, nd, hn⟩ := (A.2.2.2 q _ hS).2
  have hkl : k < ns.length := (List.getElem?_eq_some_iff.mp hk).1
  obtain ⟨hOa, ha⟩ := hn k a x hk
  have hqa : q ≠ a := fun h => by rw [h, ha] at hq; cases hq
  have e1 : nI ns.length - 1 = nI (ns.length - 1) := pk_sub (b := 1) (by omega)
  by_cases hp : k = 0
  · subst hp
    rw [if_pos rfl] at ha
    by_cases hx : 0 + 1 < ns.length
    · obtain ⟨an, xn, hxn⟩ := ll_get hx
      obtain ⟨hOn, han⟩ := hn _ an xn hxn
      rw [if_neg (by decide)] at han
      have hna : an ≠ a := ll_ne nd hxn hk (by decide)
      have hqn : q ≠ an := fun h => by rw [h, han] at hq; cases hq
      rw [lladr_at hxn] at ha
      refine ⟨?w_1, ?e_1, LLrem_of A hS hk ?h2_1 ?hq_1 (fun b y hb h0 => by omega) (fun b y hb => ?hn_1) (fun b h1 h2 h3 h4 => ?hr_1)⟩
      case e_1 =>
        unfold n_J4_unlink n_J4_unlink_b40 n_J4_unlink_b64
        simp [gI, gR, gF, gobj, gcell, hq, ha, han, asI, asR, pI, pR, pF, gfit, sup_1, hqa, hna, hqn, Ne.symm hqa, Ne.symm hna, Ne.symm hqn, e1]
        rfl
      case h2_1 => rfl
      case hq_1 =>
        have hn1 : ¬ 1 = ns.length := by omega
        simp [sup_1, hqa, hqn, hn1, lladr_at hxn]
      case hn_1 =>
        cases hxn.symm.trans hb
        simp [sup_1, hna, Ne.symm hqn]
      case hr_1 =>
        have h5 : b ≠ an := fun h => h4 (by rw [h]; exact lladr_at hxn)
        simp [sup_1, h1, h2, h5]
    · rw [lladr_ge (by omega)] at ha
      have hn1 : ns.length = 1 := by omega
      refine ⟨?w_2, ?e_2, LLrem_of A hS hk ?h2_2 ?hq_2 (fun b y hb h0 => by omega) (fun b y hb => ?hn_2) (fun b h1 h2 h3 h4 => ?hr_2)⟩
      case e_2 =>
        unfold n_J4_unlink n_J4_unlink_b40 n_J4_unlink_b64
        simp [gI, gR, gF, gobj, gcell, hq, ha, asI, asR, pI, pR, pF, gfit, sup_1, hqa, Ne.symm hqa, e1]
        rfl
      case h2_2 => rfl
      case hq_2 =>
        have e3 : lladr ns 1 = none := lladr_ge (by omega)
        simp [sup_1, hqa, hn1, e3]
      case hn_2 =>
        have := (List.getElem?_eq_some_iff.mp hb).1
        omega
      case hr_2 =>
        simp [sup_1, h1, h2]
  · obtain ⟨ap, xp, hxp⟩ := ll_get (ns := ns) (i := k - 1) (by omega)
    obtain ⟨hOp, hap⟩ := hn _ ap xp hxp
    rw [show k - 1 + 1 = k by omega, lladr_at hk] at hap
    have hpa : ap ≠ a := ll_ne nd hxp hk (by omega)
    have hqp : q ≠ ap := fun h => by rw [h, hap] at hq; cases hq
    rw [if_neg hp, lladr_at hxp] at ha
    by_cases hx : k + 1 < ns.length
    · obtain ⟨an, xn, hxn⟩ := ll_get hx
      obtain ⟨hOn, han⟩ := hn _ an xn hxn
      rw [if_neg (by omega)] at han
      have hna : an ≠ a := ll_ne nd hxn hk (by omega)
      have hnp : an ≠ ap := ll_ne nd hxn hxp (by omega)
      have hqn : q ≠ an := fun h => by rw [h, han] at hq; cases hq
      rw [lladr_at hxn] at ha
      refine ⟨?w_3, ?e_3, LLrem_of A hS hk ?h2_3 ?hq_3 (fun b y hb h0 => ?hp_3) (fun b y hb => ?hn_3) (fun b h1 h2 h3 h4 => ?hr_3)⟩
      case e_3 =>
        unfold n_J4_unlink n_J4_unlink_b40 n_J4_unlink_b64
        simp [gI, gR, gF, gobj, gcell, hq, ha, han, hap, asI, asR, pI, pR, pF, gfit, sup_1, hqa, hna, hqn, hpa, hqp, hnp, Ne.symm hqa, Ne.symm hna, Ne.symm hqn, Ne.symm hpa, Ne.symm hqp, Ne.symm hnp, e1]
        rfl
      case h2_3 => rfl
      case hq_3 =>
        have hn1 : ¬ k + 1 = ns.length := by omega
        simp [sup_1, hqa, hqn, hqp, hn1, hp]
      case hp_3 =>
        cases hxp.symm.trans hb
        simp [sup_1, hpa, Ne.symm hqp, Ne.symm hnp, lladr_at hxn]
      case hn_3 =>
        cases hxn.symm.trans hb
        simp [sup_1, hna, Ne.symm hqn, hnp, hp, lladr_at hxp]
      case hr_3 =>
        have h5 : b ≠ an := fun h => h4 (by rw [h]; exact lladr_at hxn)
        have h6 : b ≠ ap := fun h => h3.elim hp fun h3 => h3 (by rw [h]; exact lladr_at hxp)
        simp [sup_1, h1, h2, h5, h6]
    · rw [lladr_ge (by omega)] at ha
      have hn1 : k + 1 = ns.length := by omega
      refine ⟨?w_4, ?e_4, LLrem_of A hS hk ?h2_4 ?hq_4 (fun b y hb h0 => ?hp_4) (fun b y hb => ?hn_4) (fun b h1 h2 h3 h4 => ?hr_4)⟩
      case e_4 =>
        unfold n_J4_unlink n_J4_unlink_b40 n_J4_unlink_b64
        simp [gI, gR, gF, gobj, gcell, hq, ha, hap, asI, asR, pI, pR, pF, gfit, sup_1, hqa, hpa, hqp, Ne.symm hqa, Ne.symm hpa, Ne.symm hqp, e1]
        rfl
      case h2_4 => rfl
      case hq_4 =>
        simp [sup_1, hqa, hqp, hn1, hp, lladr_at hxp]
      case hp_4 =>
        cases hxp.symm.trans hb
        simp [sup_1, hpa, Ne.symm hqp, lladr_ge (Nat.le_of_eq hn1.symm)]
      case hn_4 =>
        have := (List.getElem?_eq_some_iff.mp hb).1
        omega
      case hr_4 =>
        have h6 : b ≠ ap := fun h => h3.elim hp fun h3 => h3 (by rw [h]; exact lladr_at hxp)
        simp [sup_1, h1, h2, h6]
