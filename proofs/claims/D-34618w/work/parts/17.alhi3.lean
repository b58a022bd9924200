/-! ArrayList's iterator over the high heap -/
theorem sup_spu (S : St) (e e' : CE) (n : Nat) : sup (spu S e n) S.2.1 e' = spu S e' n := by
  refine Prod.ext (funext fun b => ?_) rfl
  simp only [sup, spu]
  split <;> rfl
theorem J26_init_e {S : St} {t q : Nat} {md n : Int32} {a : Option Nat} (ht : S.1 t = some (cO 12 [vI 0, vI 0, vI 0, vR none])) (hq : S.1 q = some (cO 8 [vI md, vR a, vI n])) (hne : q ≠ t) : n_J26_init S (some t) (some q) = some ((), sup S t (cO 12 [vI 0, vI (-1), vI md, vR (some q)])) := by
  unfold n_J26_init
  simp [gI, gR, gF, gobj, gcell, ht, hq, asI, asR, gd, pI, pR, pF, gfit, sup_1, sup_sup, hne]
theorem ab_J2_iterator {S SL S1 : St} {O : Nat → Option Nat} {a0 : Option Nat} {r : Option Nat} (h : h_J2_iterator S a0 = some (r, S1)) (A : Abs S SL O) : ∃ SL' O', n_J2_iterator SL a0 = some (r, SL') ∧ Abs S1 SL' O' := by
  obtain ⟨⟨q, md, cap, xs⟩, ho, hb1⟩ := Option.bind_eq_some_iff.mp h
  obtain ⟨rfl, hS⟩ := galc_s ho
  cases hb1
  obtain ⟨a, k, f, hq, -⟩ := aAL_arr A hS
  have hql := (A.2.2.2 q _ hS).1
  have hsz : SL.2.1 = S.2.1 := by rw [A.1]
  refine ⟨spu SL (cO 12 [vI 0, vI (-1), vI md, vR (some q)]) 4, _, ?_, Abs_new A (Or.inl ⟨12, _, rfl⟩)⟩
  unfold n_J2_iterator nwB
  show bn (n_J26_init (spu SL (cO 12 [vI 0, vI 0, vI 0, vR none]) 4) (some SL.2.1) (some q)) _ = _
  rw [bn_of (J26_init_e (spu_at SL _ 4) (by rw [spu_lt _ _ _ (by omega)]; exact hq) (by omega)), sup_spu, hsz]
theorem hm_J2_iterator {S S1 : St} {a0 : Option Nat} {r : Option Nat} (h : h_J2_iterator S a0 = some (r, S1)) : S.2.1 ≤ S1.2.1 ∧ S.2.2.1 ≤ S1.2.2.1 := by
  obtain ⟨o, ho, hb1⟩ := Option.bind_eq_some_iff.mp h
  cases hb1
  exact ⟨Nat.le_succ _, Nat.le_add_right _ _⟩
theorem gF_some {S : St} {r : Option Nat} {c k : Nat} {v : TV} (h : gF S r c k = some v) : ∃ q fs, r = some q ∧ S.1 q = some (cO c fs) ∧ fs[k]? = some v := by
  obtain ⟨⟨q, fs⟩, h1, h2⟩ := Option.bind_eq_some_iff.mp h
  obtain ⟨h3, h4⟩ := gobj_some h1
  exact ⟨q, fs, h3, h4, h2⟩
theorem gI_at {S : St} {q c k : Nat} {fs : List TV} {x : Int32} (hq : S.1 q = some (cO c fs)) (h : gI S (some q) c k = some x) : fs[k]? = some (vI x) := by
  rw [gI_e hq] at h
  obtain ⟨v, h1, h2⟩ := Option.bind_eq_some_iff.mp h
  rw [h1, asI_some h2]
theorem gR_at {S : St} {q c k : Nat} {fs : List TV} {x : Option Nat} (hq : S.1 q = some (cO c fs)) (h : gR S (some q) c k = some x) : fs[k]? = some (vR x) := by
  rw [gR_e hq] at h
  obtain ⟨v, h1, h2⟩ := Option.bind_eq_some_iff.mp h
  rw [h1, asR_some h2]
theorem ab_J26_hasNext {S SL S1 : St} {O : Nat → Option Nat} {a0 : Option Nat} {r : Int32} (h : h_J26_hasNext S a0 = some (r, S1)) (A : Abs S SL O) : ∃ SL' O', n_J26_hasNext SL a0 = some (r, SL') ∧ Abs S1 SL' O' := by
  obtain ⟨c, hc, hb1⟩ := Option.bind_eq_some_iff.mp h
  obtain ⟨t, fs, rfl, ht, -⟩ := gF_some (gI_v hc)
  obtain ⟨l, hl, hb2⟩ := Option.bind_eq_some_iff.mp hb1
  obtain ⟨⟨q, md, cap, xs⟩, ho, hb3⟩ := Option.bind_eq_some_iff.mp hb2
  obtain ⟨rfl, hS⟩ := galc_s ho
  cases hb3
  obtain ⟨a, k, f, hq, -⟩ := aAL_arr A hS
  have htl : SL.1 t = some (cO 12 fs) := (A.2.2.2 t _ ht).2
  have h0 := gI_at ht hc
  have h3 := gR_at ht hl
  refine ⟨SL, O, ?_, A⟩
  unfold n_J26_hasNext
  simp [gI, gR, gF, gobj, gcell, hq, htl, h0, h3, asI, asR, rtI, gfit]
  split <;> rfl
theorem hm_J26_hasNext {S S1 : St} {a0 : Option Nat} {r : Int32} (h : h_J26_hasNext S a0 = some (r, S1)) : S.2.1 ≤ S1.2.1 ∧ S.2.2.1 ≤ S1.2.2.1 := by
  obtain ⟨c, hc, hb1⟩ := Option.bind_eq_some_iff.mp h
  obtain ⟨l, hl, hb2⟩ := Option.bind_eq_some_iff.mp hb1
  obtain ⟨o, ho, hb3⟩ := Option.bind_eq_some_iff.mp hb2
  cases hb3
  exact ⟨Nat.le_refl _, Nat.le_refl _⟩
theorem ab_J26_next {S SL S1 : St} {O : Nat → Option Nat} {a0 : Option Nat} {r : Option Nat} (h : h_J26_next S a0 = some (r, S1)) (A : Abs S SL O) : ∃ SL' O', n_J26_next SL a0 = some (r, SL') ∧ Abs S1 SL' O' := by
  obtain ⟨⟨t, fs⟩, ht0, hb1⟩ := Option.bind_eq_some_iff.mp h
  obtain ⟨rfl, ht⟩ := gobj_some ht0
  obtain ⟨c, hc, hb2⟩ := Option.bind_eq_some_iff.mp hb1
  obtain ⟨em, he, hb3⟩ := Option.bind_eq_some_iff.mp hb2
  obtain ⟨l, hl, hb4⟩ := Option.bind_eq_some_iff.mp hb3
  obtain ⟨⟨q, md, cap, xs⟩, ho, hb5⟩ := Option.bind_eq_some_iff.mp hb4
  obtain ⟨rfl, hS⟩ := galc_s ho
  simp only at hb5
  split at hb5
  case isFalse => cases hb5
  next hg =>
  obtain ⟨rfl, hc0⟩ := hg
  obtain ⟨x, hx, hb6⟩ := Option.bind_eq_some_iff.mp hb5
  cases hb6
  obtain ⟨j, hj, rfl⟩ := nI_of hc0
  rw [nI_clamp hj] at hx
  have hjl : j < xs.length := (List.getElem?_eq_some_iff.mp hx).1
  obtain ⟨a, k, f, hq, ha, haq, hal, hok, hle, hcap, hk⟩ := aAL_arr A hS
  obtain ⟨hk0, -, -⟩ | ⟨hk0, rfl, rfl, hO⟩ := hk
  · omega
  have htl : SL.1 t = some (cO 12 fs) := (A.2.2.2 t _ ht).2
  have h0 := gI_at ht hc
  have h2 := gI_at ht he
  have h3 := gR_at ht hl
  have hl3 : 3 < fs.length := (List.getElem?_eq_some_iff.mp h3).1
  have hat : a ≠ t := fun h => by rw [h, htl] at ha; cases ha
  have g1 : nI j < nI xs.length := nI_lt hjl (by omega)
  have g2 : nI j < nI cap := nI_lt (by omega) (by omega)
  have h4 := fun S' (h : S'.1 a = some (cA 4 cap (alf xs))) => aR_e (S := S') h (i := j) (by omega) (by omega) (alf_at hx)
  refine ⟨sup SL t (cO 12 ((fs.set 0 (vI (nI j + 1))).set 1 (vI (nI j)))), O, ?_, Abs_upO A ht (e' := cO 12 ((fs.set 0 (vI (nI j + 1))).set 1 (vI (nI j)))) rfl _ (sup_at _ _ _)⟩
  have h5 := h4 (sup SL t (cO 12 ((fs.set 0 (vI (nI j + 1))).set 1 (vI (nI j))))) (by rw [sup_ne _ _ hat]; exact ha)
  have hln := aLn_e ha (Or.inl (by omega))
  unfold n_J26_next n_J26_checkForComodification
  have l0 : 0 < fs.length := by omega
  have l1 : 1 < fs.length := by omega
  have k0 := (List.getElem?_eq_some_iff.mp h0).2
  have k2 := (List.getElem?_eq_some_iff.mp h2).2
  have k3 := (List.getElem?_eq_some_iff.mp h3).2
  have l2 : 2 < fs.length := by omega
  simp [l2, hl3, gI, gR, gF, gobj, gcell, hq, htl, k0, k2, k3, asI, asR, grc, gclsOf, gd, bn, g1, g2, hln, pI, pF, gfit, l0, l1, sup_1, sup_sup, h5]
theorem hm_J26_next {S S1 : St} {a0 : Option Nat} {r : Option Nat} (h : h_J26_next S a0 = some (r, S1)) : S.2.1 ≤ S1.2.1 ∧ S.2.2.1 ≤ S1.2.2.1 := by
  obtain ⟨_, _, hb1⟩ := Option.bind_eq_some_iff.mp h
  obtain ⟨_, _, hb2⟩ := Option.bind_eq_some_iff.mp hb1
  obtain ⟨_, _, hb3⟩ := Option.bind_eq_some_iff.mp hb2
  obtain ⟨_, _, hb4⟩ := Option.bind_eq_some_iff.mp hb3
  obtain ⟨_, _, hb5⟩ := Option.bind_eq_some_iff.mp hb4
  split at hb5
  · obtain ⟨_, _, hb6⟩ := Option.bind_eq_some_iff.mp hb5
    cases hb6
    exact ⟨Nat.le_refl _, Nat.le_refl _⟩
  · cases hb5
theorem ab_J26_remove {S SL S1 : St} {O : Nat → Option Nat} {a0 : Option Nat} {r : Unit} (h : h_J26_remove S a0 = some (r, S1)) (A : Abs S SL O) : ∃ SL' O', n_J26_remove SL a0 = some (r, SL') ∧ Abs S1 SL' O' := by
  obtain ⟨⟨t, fs⟩, ht0, hb1⟩ := Option.bind_eq_some_iff.mp h
  obtain ⟨rfl, ht⟩ := gobj_some ht0
  obtain ⟨c, hc, hb2⟩ := Option.bind_eq_some_iff.mp hb1
  obtain ⟨em, he, hb3⟩ := Option.bind_eq_some_iff.mp hb2
  obtain ⟨l, hl, hb4⟩ := Option.bind_eq_some_iff.mp hb3
  obtain ⟨⟨q, md, cap, xs⟩, ho, hb5⟩ := Option.bind_eq_some_iff.mp hb4
  obtain ⟨rfl, hS⟩ := galc_s ho
  simp only at hb5
  split at hb5
  case isFalse => cases hb5
  next hg =>
  obtain ⟨rfl, hc0, hjl⟩ := hg
  cases hb5
  obtain ⟨j, hj, rfl⟩ := nI_of hc0
  rw [nI_clamp hj] at hjl ⊢
  have hx : xs[j]? = some xs[j] := List.getElem?_eq_getElem hjl
  obtain ⟨a, k, f, hq, ha, haq, hal, hok, hle, hcap, hk⟩ := aAL_arr A hS
  obtain ⟨hk0, -, -⟩ | ⟨hk0, rfl, rfl, hO⟩ := hk
  · omega
  have htl : SL.1 t = some (cO 12 fs) := (A.2.2.2 t _ ht).2
  have h1 := gI_at ht hc
  have h2 := gI_at ht he
  have h3 := gR_at ht hl
  have hl3 : 3 < fs.length := (List.getElem?_eq_some_iff.mp h3).1
  have hat : t ≠ a := fun h => by rw [← h, htl] at ha; cases ha
  have hqt : t ≠ q := fun h => by rw [h, hq] at htl; cases htl
  have hrem := J2_rem_e A hq ha haq hcap hle hx hok
  have A2 := Abs_rem A hS haq hO hk0 hcap hle hjl hok
  have ht2 : (sup S q (cAL (md + 1) cap (xs.eraseIdx j))).1 t = some (cO 12 fs) := by rw [sup_ne _ _ hqt]; exact ht
  refine ⟨_, O, ?_, Abs_upO A2 ht2 (e' := cO 12 (((fs.set 0 (vI (nI j))).set 1 (vI (-1))).set 2 (vI (md + 1)))) rfl (cO 12 (((fs.set 0 (vI (nI j))).set 1 (vI (-1))).set 2 (vI (md + 1)))) (sup_at _ _ _)⟩
  unfold n_J26_remove n_J26_checkForComodification
  have l0 : 0 < fs.length := by omega
  have l1 : 1 < fs.length := by omega
  have l2 : 2 < fs.length := by omega
  have g0 : 0 ≤ nI j := nI_pos' (by omega)
  have k1 := (List.getElem?_eq_some_iff.mp h1).2
  have k2 := (List.getElem?_eq_some_iff.mp h2).2
  have k3 := (List.getElem?_eq_some_iff.mp h3).2
  simp [hl3, gI, gR, gF, gobj, gcell, hq, htl, k1, k2, k3, asI, asR, grc, gclsOf, gd, bn, g0, hrem, pI, pF, gfit, l0, l1, l2, sup_1, sup_sup, hat, hqt, Ne.symm hqt]
theorem hm_J26_remove {S S1 : St} {a0 : Option Nat} {r : Unit} (h : h_J26_remove S a0 = some (r, S1)) : S.2.1 ≤ S1.2.1 ∧ S.2.2.1 ≤ S1.2.2.1 := by
  obtain ⟨_, _, hb1⟩ := Option.bind_eq_some_iff.mp h
  obtain ⟨_, _, hb2⟩ := Option.bind_eq_some_iff.mp hb1
  obtain ⟨_, _, hb3⟩ := Option.bind_eq_some_iff.mp hb2
  obtain ⟨_, _, hb4⟩ := Option.bind_eq_some_iff.mp hb3
  obtain ⟨_, _, hb5⟩ := Option.bind_eq_some_iff.mp hb4
  split at hb5
  · cases hb5
    exact ⟨Nat.le_refl _, Nat.le_refl _⟩
  · cases hb5
