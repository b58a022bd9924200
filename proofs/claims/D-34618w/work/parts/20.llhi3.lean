/-! LinkedList: removal of an item, iterators -/
theorem remN_e {S SL : St} {O : Nat → Option Nat} {q x1 : Nat} {md : Int32} {ns : List (Nat × Option Nat)} (A : Abs S SL O) (hS : S.1 q = some (cLL md ns)) (hg : grc SL (some x1) 3 = true) : ∀ (n i fu : Nat), i + n = ns.length → n < fu → i ≤ llfind (some x1) ns →
    n_J4_remove_2_b44 fu SL (some q) (some x1) (lladr ns i) = if llfind (some x1) ns < ns.length then bn (n_J4_unlink SL (some q) (lladr ns (llfind (some x1) ns))) fun _ S5 => some (1, S5) else some (0, SL)
  | 0, i, fu + 1, hi, hf, hx => by
    rw [lladr_ge (by omega), if_neg (by omega)]
    simp [n_J4_remove_2_b44, rtI, gfit]
  | n + 1, i, fu + 1, hi, hf, hx => by
    obtain ⟨hq, nd, hn⟩ := (A.2.2.2 q _ hS).2
    obtain ⟨a, y, ha⟩ := ll_get (ns := ns) (i := i) (by omega)
    have hca := (hn i a y ha).2
    have hil : i < ns.length := by omega
    have hgi : ns[i] = (a, y) := (List.getElem?_eq_some_iff.mp ha).2
    have ih := remN_e A hS hg n (i + 1) fu (by omega) (by omega)
    rw [lladr_at ha]
    by_cases he : some x1 = y
    · have hfi : llfind (some x1) ns = i := by
        refine Nat.le_antisymm ?_ hx
        refine Nat.le_of_not_lt fun h => ?_
        have := List.not_of_lt_findIdx (p := fun n : Nat × Option Nat => n.2 == some x1) (xs := ns) (i := i) h
        rw [hgi, ← he] at this
        simp at this
      rw [hfi, if_pos hil, lladr_at ha]
      have hgq : grc SL (some q) 9 = true := by rw [grc_e hq]; rfl
      subst he
      simp [n_J4_remove_2_b44, n_J35_equals, gR, gF, gobj, gcell, hca, asR, hg, gd, bn, rtI, gfit, hgq]
    · have hne : llfind (some x1) ns ≠ i := fun h => he (by
        have h2 : ns.findIdx (fun n : Nat × Option Nat => n.2 == some x1) < ns.length := by unfold llfind at h; omega
        have := List.findIdx_getElem (w := h2)
        unfold llfind at h
        simp only [h, hgi] at this
        exact (eq_of_beq this).symm)
      have ih2 := ih (by omega)
      rw [← ih2]
      simp [n_J4_remove_2_b44, n_J35_equals, gR, gF, gobj, gcell, hca, asR, hg, gd, bn, he, rtI, gfit]
theorem ab_J4_remove_2 {S SL S1 : St} {O : Nat → Option Nat} {a0 x : Option Nat} {r : Int32} (h : h_J4_remove_2 S a0 x = some (r, S1)) (A : Abs S SL O) : ∃ SL' O', n_J4_remove_2 SL a0 x = some (r, SL') ∧ Abs S1 SL' O' := by
  obtain ⟨⟨q, md, ns⟩, ho, hb1⟩ := Option.bind_eq_some_iff.mp h
  obtain ⟨rfl, hS⟩ := gllc_s ho
  simp only at hb1
  split at hb1
  case isFalse => cases hb1
  next hgl =>
  obtain ⟨hg, hl⟩ := hgl
  obtain ⟨x1, e1, rfl, -, -⟩ := grc_some hg
  have hgl := grc_lo A hg
  obtain ⟨hq, nd, hn⟩ := (A.2.2.2 q _ hS).2
  have hst : n_J4_remove_2 SL (some q) (some x1) = n_J4_remove_2_b44 FU SL (some q) (some x1) (lladr ns 0) := by
    unfold n_J4_remove_2
    simp [gR, gF, gobj, gcell, hq, asR]
  rw [hst, remN_e A hS hgl ns.length 0 FU (by omega) (by unfold FU; omega) (Nat.zero_le _)]
  by_cases hm : llfind (some x1) ns < ns.length
  · rw [if_pos hm] at hb1 ⊢
    cases hb1
    obtain ⟨a, y, ha⟩ := ll_get hm
    obtain ⟨SL', g1, g2⟩ := unlink_e A hS ha
    rw [lladr_at ha, g1]
    exact ⟨SL', O, rfl, Abs_llrem A hS hm g2⟩
  · rw [if_neg hm] at hb1 ⊢
    cases hb1
    exact ⟨SL, O, rfl, A⟩
theorem hm_J4_remove_2 {S S1 : St} {a0 x : Option Nat} {r : Int32} (h : h_J4_remove_2 S a0 x = some (r, S1)) : S.2.1 ≤ S1.2.1 ∧ S.2.2.1 ≤ S1.2.2.1 := by
  obtain ⟨o, h1⟩ := hm_bind h
  split at h1
  · split at h1 <;> cases h1 <;> exact ⟨Nat.le_refl _, Nat.le_refl _⟩
  · cases h1
theorem J29_init_e {S : St} {t q : Nat} {md : Int32} {ns : List (Nat × Option Nat)} (hlen : ns.length < 100000) (ht : S.1 t = some (cO 13 [vR none, vR none, vI 0, vI 0, vR none])) (hq : S.1 q = some (cO 9 [vI md, vI (nI ns.length), vR (lladr ns 0), vR (lladr ns (ns.length - 1))])) (hne : q ≠ t) : n_J29_init S (some t) (some q) 0 = some ((), sup S t (cO 13 [vR none, vR (lladr ns 0), vI 0, vI md, vR (some q)])) := by
  unfold n_J29_init n_J29_init_b38
  by_cases h0 : ns.length = 0
  · rw [h0] at hq
    have e0 : (0 : Int32) = nI 0 := rfl
    rw [lladr_ge (by omega)] at hq ⊢
    simp [gI, gR, gF, gobj, gcell, ht, hq, asI, asR, gd, pI, pR, pF, gfit, sup_1, sup_sup, hne, e0]
  · have e0 : ¬ (0 : Int32) = nI ns.length := fun h => h0 ((nI_eq (a := 0) (by omega) (by omega)).mp h).symm
    have hnode : ∀ S' : St, S'.1 q = some (cO 9 [vI md, vI (nI ns.length), vR (lladr ns 0), vR (lladr ns (ns.length - 1))]) → n_J4_node S' (some q) 0 = some (lladr ns 0, S') := by
      intro S' hq'
      unfold n_J4_node
      have e1 : nI ns.length >>> ((1 : Int32) &&& 31) = nI (ns.length / 2 ^ 1) := pk_shrN (by omega) _ 1 (by decide)
      have e2 : nI ns.length - 1 = nI (ns.length - 1) := pk_sub (b := 1) (by omega)
      by_cases h1 : ns.length = 1
      · have e3 : nI (ns.length / 2 ^ 1) ≤ 0 := nI_le (b := 0) (by omega) (by omega)
        have e4 : nI (ns.length - 1) ≤ 0 := nI_le (b := 0) (by omega) (by omega)
        have e5 : ns.length - 1 = 0 := by omega
        have hb : ∀ (fu : Nat) (x : Option Nat), 0 < fu → n_J4_node_b47 fu S' 0 x (nI (ns.length - 1)) = some (x, S') := fun fu x h => by
          match fu, h with
          | fu + 1, _ => exact if_pos e4
        simp [gI, gR, gF, gobj, gcell, hq', asI, asR, e1, e2]
        rw [if_pos e3, hb FU _ (by decide), e5]
      · have e3 : ¬ nI (ns.length / 2 ^ 1) ≤ 0 := nI_nle (by omega) (by omega)
        have hb : ∀ (fu : Nat) (x : Option Nat), 0 < fu → n_J4_node_b17 fu S' 0 x 0 = some (x, S') := fun fu x h => by
          match fu, h with
          | fu + 1, _ => simp [n_J4_node_b17]
        simp [gI, gR, gF, gobj, gcell, hq', asI, asR, e1]
        rw [if_neg e3, hb FU _ (by decide)]
    have h9 := hnode (sup S t (cO 13 [vR none, vR none, vI 0, vI md, vR (some q)])) (by rw [sup_ne _ _ hne]; exact hq)
    simp [gI, gR, gF, gobj, gcell, ht, hq, asI, asR, gd, pI, pR, pF, gfit, sup_1, sup_sup, hne, e0, bn, grc, gclsOf, h9]
theorem ab_J3_iterator {S SL S1 : St} {O : Nat → Option Nat} {a0 : Option Nat} {r : Option Nat} (h : h_J3_iterator S a0 = some (r, S1)) (A : Abs S SL O) : ∃ SL' O', n_J3_iterator SL a0 = some (r, SL') ∧ Abs S1 SL' O' := by
  obtain ⟨⟨q, md, ns⟩, ho, hb1⟩ := Option.bind_eq_some_iff.mp h
  obtain ⟨rfl, hS⟩ := gllc_s ho
  simp only at hb1
  split at hb1
  case isFalse => cases hb1
  next hl =>
  cases hb1
  obtain ⟨hq, nd, hn⟩ := (A.2.2.2 q _ hS).2
  have hql := (A.2.2.2 q _ hS).1
  have hsz : SL.2.1 = S.2.1 := by rw [A.1]
  refine ⟨spu SL (cO 13 [vR none, vR (lladr ns 0), vI 0, vI md, vR (some q)]) 5, _, ?_, Abs_new A (Or.inl ⟨13, _, rfl⟩)⟩
  have hinit := J29_init_e (q := q) (md := md) hl (spu_at SL (cO 13 [vR none, vR none, vI 0, vI 0, vR none]) 5) (by rw [spu_lt _ _ _ (by omega)]; exact hq) (by omega)
  rw [sup_spu] at hinit
  have hpos : ¬ nI ns.length < 0 := nI_pos (by omega)
  unfold n_J3_iterator n_J1_listIterator n_J4_listIterator n_J4_checkPositionIndex n_J4_isPositionIndex nwB
  rw [← hsz]
  simp [gI, gF, gobj, gcell, hq, asI, gd, bn, grc, gclsOf, rtI, gfit, hpos, hinit]
theorem hm_J3_iterator {S S1 : St} {a0 : Option Nat} {r : Option Nat} (h : h_J3_iterator S a0 = some (r, S1)) : S.2.1 ≤ S1.2.1 ∧ S.2.2.1 ≤ S1.2.2.1 := by
  obtain ⟨o, h1⟩ := hm_bind h
  split at h1
  · cases h1
    exact ⟨Nat.le_succ _, Nat.le_add_right _ _⟩
  · cases h1
theorem ab_J29_hasNext {S SL S1 : St} {O : Nat → Option Nat} {a0 : Option Nat} {r : Int32} (h : h_J29_hasNext S a0 = some (r, S1)) (A : Abs S SL O) : ∃ SL' O', n_J29_hasNext SL a0 = some (r, SL') ∧ Abs S1 SL' O' := by
  obtain ⟨i, hi, hb1⟩ := Option.bind_eq_some_iff.mp h
  obtain ⟨t, fs, rfl, ht, -⟩ := gF_some (gI_v hi)
  obtain ⟨l, hl, hb2⟩ := Option.bind_eq_some_iff.mp hb1
  obtain ⟨⟨q, md, ns⟩, ho, hb3⟩ := Option.bind_eq_some_iff.mp hb2
  obtain ⟨rfl, hS⟩ := gllc_s ho
  cases hb3
  obtain ⟨hq, nd, hn⟩ := (A.2.2.2 q _ hS).2
  have htl : SL.1 t = some (cO 13 fs) := (A.2.2.2 t _ ht).2
  have h2 := gI_at ht hi
  have h4 := gR_at ht hl
  refine ⟨SL, O, ?_, A⟩
  unfold n_J29_hasNext
  simp [gI, gR, gF, gobj, gcell, hq, htl, h2, h4, asI, asR, rtI, gfit]
  by_cases hlt : i < nI ns.length
  · rw [if_neg (Int32.not_le.mpr hlt), if_pos hlt]
  · rw [if_pos (Int32.not_lt.mp hlt), if_neg hlt]
theorem hm_J29_hasNext {S S1 : St} {a0 : Option Nat} {r : Int32} (h : h_J29_hasNext S a0 = some (r, S1)) : S.2.1 ≤ S1.2.1 ∧ S.2.2.1 ≤ S1.2.2.1 := by
  obtain ⟨o, h1⟩ := hm_bind h
  obtain ⟨o, h2⟩ := hm_bind h1
  obtain ⟨o, h3⟩ := hm_bind h2
  cases h3
  exact ⟨Nat.le_refl _, Nat.le_refl _⟩
theorem ab_J29_next {S SL S1 : St} {O : Nat → Option Nat} {a0 : Option Nat} {r : Option Nat} (h : h_J29_next S a0 = some (r, S1)) (A : Abs S SL O) : ∃ SL' O', n_J29_next SL a0 = some (r, SL') ∧ Abs S1 SL' O' := by
  obtain ⟨⟨t, fs⟩, ht0, hb1⟩ := Option.bind_eq_some_iff.mp h
  obtain ⟨rfl, ht⟩ := gobj_some ht0
  obtain ⟨nx, hnx, hb2⟩ := Option.bind_eq_some_iff.mp hb1
  obtain ⟨i, hi, hb3⟩ := Option.bind_eq_some_iff.mp hb2
  obtain ⟨em, he, hb4⟩ := Option.bind_eq_some_iff.mp hb3
  obtain ⟨l, hl, hb5⟩ := Option.bind_eq_some_iff.mp hb4
  obtain ⟨⟨q, md, ns⟩, ho, hb6⟩ := Option.bind_eq_some_iff.mp hb5
  obtain ⟨rfl, hS⟩ := gllc_s ho
  simp only at hb6
  split at hb6
  case isFalse => cases hb6
  next hg =>
  obtain ⟨rfl, hi0, rfl, hlen⟩ := hg
  obtain ⟨⟨a, x⟩, hx, hb7⟩ := Option.bind_eq_some_iff.mp hb6
  cases hb7
  obtain ⟨j, hj, rfl⟩ := nI_of hi0
  rw [nI_clamp hj] at hx hnx ⊢
  have hjl : j < ns.length := (List.getElem?_eq_some_iff.mp hx).1
  obtain ⟨hq, nd, hn⟩ := (A.2.2.2 q _ hS).2
  have ha := (hn j a x hx).2
  have htl : SL.1 t = some (cO 13 fs) := (A.2.2.2 t _ ht).2
  have h1 := gR_at ht hnx
  rw [lladr_at hx] at h1 ⊢
  have h2 := gI_at ht hi
  have h3 := gI_at ht he
  have h4 := gR_at ht hl
  have k1 := (List.getElem?_eq_some_iff.mp h1).2
  have k2 := (List.getElem?_eq_some_iff.mp h2).2
  have k3 := (List.getElem?_eq_some_iff.mp h3).2
  have k4 := (List.getElem?_eq_some_iff.mp h4).2
  have l4 : 4 < fs.length := (List.getElem?_eq_some_iff.mp h4).1
  have l3 : 3 < fs.length := by omega
  have l2 : 2 < fs.length := by omega
  have l1 : 1 < fs.length := by omega
  have l0 : 0 < fs.length := by omega
  have hat : a ≠ t := fun h => by rw [h, htl] at ha; cases ha
  have hqt : q ≠ t := fun h => by rw [h, htl] at hq; cases hq
  have g1 : ¬ nI ns.length ≤ nI j := nI_ge hjl (by omega)
  refine ⟨sup SL t (cO 13 (((fs.set 0 (vR (some a))).set 1 (vR (lladr ns (j + 1)))).set 2 (vI (nI j + 1)))), O, ?_, Abs_upO A ht (e' := cO 13 (((fs.set 0 (vR (some a))).set 1 (vR (lladr ns (j + 1)))).set 2 (vI (nI j + 1)))) rfl _ (sup_at _ _ _)⟩
  unfold n_J29_next n_J29_checkForComodification n_J29_hasNext
  simp [gI, gR, gF, gobj, gcell, hq, ha, htl, k1, k2, k3, k4, l0, l1, l2, l3, l4, asI, asR, grc, gclsOf, gd, bn, g1, pI, pR, pF, gfit, sup_1, sup_sup, rtI, hat, hqt]
theorem hm_J29_next {S S1 : St} {a0 : Option Nat} {r : Option Nat} (h : h_J29_next S a0 = some (r, S1)) : S.2.1 ≤ S1.2.1 ∧ S.2.2.1 ≤ S1.2.2.1 := by
  obtain ⟨_, h1⟩ := hm_bind h
  obtain ⟨_, h2⟩ := hm_bind h1
  obtain ⟨_, h3⟩ := hm_bind h2
  obtain ⟨_, h4⟩ := hm_bind h3
  obtain ⟨_, h5⟩ := hm_bind h4
  obtain ⟨_, h6⟩ := hm_bind h5
  split at h6
  · obtain ⟨_, h7⟩ := hm_bind h6
    cases h7
    exact ⟨Nat.le_refl _, Nat.le_refl _⟩
  · cases h6
theorem ab_J29_remove {S SL S1 : St} {O : Nat → Option Nat} {a0 : Option Nat} {r : Unit} (h : h_J29_remove S a0 = some (r, S1)) (A : Abs S SL O) : ∃ SL' O', n_J29_remove SL a0 = some (r, SL') ∧ Abs S1 SL' O' := by
  obtain ⟨⟨t, fs⟩, ht0, hb1⟩ := Option.bind_eq_some_iff.mp h
  obtain ⟨rfl, ht⟩ := gobj_some ht0
  obtain ⟨lr, hlr, hb2⟩ := Option.bind_eq_some_iff.mp hb1
  obtain ⟨nx, hnx, hb3⟩ := Option.bind_eq_some_iff.mp hb2
  obtain ⟨i, hi, hb4⟩ := Option.bind_eq_some_iff.mp hb3
  obtain ⟨em, he, hb5⟩ := Option.bind_eq_some_iff.mp hb4
  obtain ⟨l, hl, hb6⟩ := Option.bind_eq_some_iff.mp hb5
  obtain ⟨⟨q, md, ns⟩, ho, hb7⟩ := Option.bind_eq_some_iff.mp hb6
  obtain ⟨rfl, hS⟩ := gllc_s ho
  simp only at hb7
  split at hb7
  case isFalse => cases hb7
  next hg =>
  obtain ⟨rfl, hi0, hil, rfl, rfl, hlen⟩ := hg
  cases hb7
  obtain ⟨j, hj, rfl⟩ := nI_of (x := i) (fun h => Int32.lt_irrefl (Int32.lt_trans h hi0))
  rw [nI_clamp hj] at hil hlr hnx ⊢
  have hj0 : 0 < j := (nI_ltI (a := 0) (by omega) hj).mp hi0
  obtain ⟨a, x, hx⟩ := ll_get (ns := ns) (i := j - 1) (by omega)
  obtain ⟨hq, nd, hn⟩ := (A.2.2.2 q _ hS).2
  obtain ⟨hOa, ha⟩ := hn _ a x hx
  rw [lladr_at hx] at hlr
  have hna : lladr ns j ≠ some a := fun h => by
    by_cases h5 : j < ns.length
    · obtain ⟨c, z, hc⟩ := ll_get h5
      rw [lladr_at hc] at h
      cases h
      exact absurd (ll_inj nd hc hx) (by omega)
    · rw [lladr_ge (by omega)] at h; cases h
  obtain ⟨SL', g1, g2⟩ := unlink_e A hS hx
  have A2 := Abs_llrem A hS (by omega) g2
  obtain ⟨r1, r2, r3, r4⟩ := g2
  have htl : SL.1 t = some (cO 13 fs) := (A.2.2.2 t _ ht).2
  have hat : a ≠ t := fun h => by rw [h, htl] at ha; cases ha
  have hqt : q ≠ t := fun h => by rw [h, htl] at hq; cases hq
  have hOt : O t ≠ some q := fun h => by have := (A.2.2.1 t q h).1; rw [ht] at this; cases this
  have htl2 : SL'.1 t = some (cO 13 fs) := (r4 t (Ne.symm hqt) hOt).trans htl
  have h0 := gR_at ht hlr
  have h1 := gR_at ht hnx
  have h2 := gI_at ht hi
  have h3 := gI_at ht he
  have h4 := gR_at ht hl
  have k0 := (List.getElem?_eq_some_iff.mp h0).2
  have k1 := (List.getElem?_eq_some_iff.mp h1).2
  have k2 := (List.getElem?_eq_some_iff.mp h2).2
  have k3 := (List.getElem?_eq_some_iff.mp h3).2
  have k4 := (List.getElem?_eq_some_iff.mp h4).2
  have l4 : 4 < fs.length := (List.getElem?_eq_some_iff.mp h4).1
  have l3 : 3 < fs.length := by omega
  have l2 : 2 < fs.length := by omega
  have l1 : 1 < fs.length := by omega
  have l0 : 0 < fs.length := by omega
  have ht2 : (sup S q (cLL (md + 1) (ns.eraseIdx (j - 1)))).1 t = some (cO 13 fs) := by rw [sup_ne _ _ (Ne.symm hqt)]; exact ht
  refine ⟨_, O, ?_, Abs_upO A2 ht2 (e' := cO 13 (((fs.set 2 (vI (nI j - 1))).set 0 (vR none)).set 3 (vI (md + 1)))) rfl (cO 13 (((fs.set 2 (vI (nI j - 1))).set 0 (vR none)).set 3 (vI (md + 1)))) (sup_at _ _ _)⟩
  unfold n_J29_remove n_J29_checkForComodification n_J29_remove_b68
  simp [gI, gR, gF, gobj, gcell, hq, ha, htl, htl2, k0, k1, k2, k3, k4, l0, l1, l2, l3, l4, asI, asR, grc, gclsOf, gd, bn, g1, pI, pR, pF, gfit, sup_1, sup_sup, hat, hqt, hna]
theorem hm_J29_remove {S S1 : St} {a0 : Option Nat} {r : Unit} (h : h_J29_remove S a0 = some (r, S1)) : S.2.1 ≤ S1.2.1 ∧ S.2.2.1 ≤ S1.2.2.1 := by
  obtain ⟨_, h1⟩ := hm_bind h
  obtain ⟨_, h2⟩ := hm_bind h1
  obtain ⟨_, h3⟩ := hm_bind h2
  obtain ⟨_, h4⟩ := hm_bind h3
  obtain ⟨_, h5⟩ := hm_bind h4
  obtain ⟨_, h6⟩ := hm_bind h5
  obtain ⟨_, h7⟩ := hm_bind h6
  split at h7
  · cases h7
    exact ⟨Nat.le_refl _, Nat.le_refl _⟩
  · cases h7
