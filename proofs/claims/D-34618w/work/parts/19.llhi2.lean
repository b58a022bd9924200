/-! LinkedList: the methods -/
theorem hm_bind {α β : Type} {o : Option α} {f : α → Option β} {z : β} (h : o.bind f = some z) : ∃ a, f a = some z := by
  obtain ⟨a, _, h⟩ := Option.bind_eq_some_iff.mp h
  exact ⟨a, h⟩
theorem ab_J4_size {S SL S1 : St} {O : Nat → Option Nat} {a0 : Option Nat} {r : Int32} (h : h_J4_size S a0 = some (r, S1)) (A : Abs S SL O) : ∃ SL' O', n_J4_size SL a0 = some (r, SL') ∧ Abs S1 SL' O' := by
  obtain ⟨⟨q, md, ns⟩, ho, hb1⟩ := Option.bind_eq_some_iff.mp h
  obtain ⟨rfl, hS⟩ := gllc_s ho
  cases hb1
  obtain ⟨hq, nd, hn⟩ := (A.2.2.2 q _ hS).2
  refine ⟨SL, O, ?_, A⟩
  unfold n_J4_size
  simp [gI, gF, gobj, gcell, hq, asI, rtI, gfit]
theorem hm_J4_size {S S1 : St} {a0 : Option Nat} {r : Int32} (h : h_J4_size S a0 = some (r, S1)) : S.2.1 ≤ S1.2.1 ∧ S.2.2.1 ≤ S1.2.2.1 := by
  obtain ⟨o, h1⟩ := hm_bind h
  cases h1
  exact ⟨Nat.le_refl _, Nat.le_refl _⟩
theorem ab_J0_isEmpty {S SL S1 : St} {O : Nat → Option Nat} {a0 : Option Nat} {r : Int32} (h : h_J0_isEmpty S a0 = some (r, S1)) (A : Abs S SL O) : ∃ SL' O', n_J0_isEmpty SL a0 = some (r, SL') ∧ Abs S1 SL' O' := by
  obtain ⟨⟨q, md, ns⟩, ho, hb1⟩ := Option.bind_eq_some_iff.mp h
  obtain ⟨rfl, hS⟩ := gllc_s ho
  simp only at hb1
  split at hb1
  case isFalse => cases hb1
  next hl =>
  cases hb1
  obtain ⟨hq, nd, hn⟩ := (A.2.2.2 q _ hS).2
  refine ⟨SL, O, ?_, A⟩
  have e1 : (nI ns.length = 0) ↔ ns.length = 0 := (nI_eq (b := 0) (by omega) (by omega))
  unfold n_J0_isEmpty n_J4_size
  simp [gI, gF, gobj, gcell, hq, asI, rtI, gfit, gd, grc, gclsOf, bn, e1]
  split <;> rfl
theorem hm_J0_isEmpty {S S1 : St} {a0 : Option Nat} {r : Int32} (h : h_J0_isEmpty S a0 = some (r, S1)) : S.2.1 ≤ S1.2.1 ∧ S.2.2.1 ≤ S1.2.2.1 := by
  obtain ⟨o, h1⟩ := hm_bind h
  split at h1
  · cases h1
    exact ⟨Nat.le_refl _, Nat.le_refl _⟩
  · cases h1
theorem ab_J4_init {S SL S1 : St} {O : Nat → Option Nat} {a0 : Option Nat} {r : Unit} (h : h_J4_init S a0 = some (r, S1)) (A : Abs S SL O) : ∃ SL' O', n_J4_init SL a0 = some (r, SL') ∧ Abs S1 SL' O' := by
  obtain ⟨⟨q, fs⟩, ho, hb1⟩ := Option.bind_eq_some_iff.mp h
  obtain ⟨rfl, hS⟩ := gobj_some ho
  simp only at hb1
  split at hb1
  case isFalse => cases hb1
  next hf =>
  subst hf
  cases hb1
  have hq : SL.1 q = some (cO 9 [vI 0, vI 0, vR none, vR none]) := (A.2.2.2 q _ hS).2
  refine ⟨sup SL q (cO 9 [vI 0, vI 0, vR none, vR none]), O, ?_, Abs_upO A hS (e' := cLL 0 []) rfl _ ⟨sup_at _ _ _, List.nodup_nil, fun i a x hi => by cases hi⟩⟩
  unfold n_J4_init n_J3_init n_J1_init_9 n_J0_init
  simp [gd, bn, pI, pF, gfit, gobj, gcell, hq, sup_1, sup_sup]
theorem hm_J4_init {S S1 : St} {a0 : Option Nat} {r : Unit} (h : h_J4_init S a0 = some (r, S1)) : S.2.1 ≤ S1.2.1 ∧ S.2.2.1 ≤ S1.2.2.1 := by
  obtain ⟨o, h1⟩ := hm_bind h
  split at h1
  · cases h1
    exact ⟨Nat.le_refl _, Nat.le_refl _⟩
  · cases h1
theorem lladr_app (ns : List (Nat × Option Nat)) (b : Nat) (y : Option Nat) (i : Nat) : lladr (ns ++ [(b, y)]) i = if i = ns.length then some b else lladr ns i := by
  simp only [lladr]
  by_cases h : i = ns.length
  · subst h; rw [if_pos rfl, List.getElem?_append_right (Nat.le_refl _), Nat.sub_self]; rfl
  · rw [if_neg h]
    by_cases h2 : i < ns.length
    · rw [List.getElem?_append_left h2]
    · rw [List.getElem?_eq_none (by rw [List.length_append, List.length_singleton]; omega), List.getElem?_eq_none (by omega)]
/-- a node is linked at the end -/
theorem linkLast_e {S SL : St} {O : Nat → Option Nat} {q : Nat} {md : Int32} {ns : List (Nat × Option Nat)} {x : Option Nat} (A : Abs S SL O) (hS : S.1 q = some (cLL md ns)) : ∃ SL' O', n_J4_linkLast SL (some q) x = some ((), SL') ∧ Abs (ssk (sup S q (cLL (md + 1) (ns ++ [(S.2.1, x)]))) 3) SL' O' := by
  obtain ⟨hq, nd, hn⟩ := (A.2.2.2 q _ hS).2
  have hql := (A.2.2.2 q _ hS).1
  have hsz : SL.2.1 = S.2.1 := by rw [A.1]
  have hqn : q ≠ SL.2.1 := by omega
  have hOl := fun a b (h : O a = some b) => (A.2.2.1 a b h).2
  have hno : ∀ i a y, ns[i]? = some (a, y) → a < S.2.1 := fun i a y hi => hOl a q (hn i a y hi).1
  have hpost : ∀ SL' : St, SL'.2 = (ssk S 3).2 → SL'.1 q = some (cO 9 [vI (md + 1), vI (nI (ns.length + 1)), vR (if ns.length = 0 then some S.2.1 else lladr ns 0), vR (some S.2.1)]) → SL'.1 S.2.1 = some (cO 11 [vR x, vR none, vR (lladr ns (ns.length - 1))]) → (∀ a y, ns[ns.length - 1]? = some (a, y) → SL'.1 a = some (cO 11 [vR y, vR (some S.2.1), vR (if ns.length - 1 = 0 then none else lladr ns (ns.length - 1 - 1))])) → (∀ b, b ≠ q → b < S.2.1 → lladr ns (ns.length - 1) ≠ some b → SL'.1 b = SL.1 b) → Abs (ssk (sup S q (cLL (md + 1) (ns ++ [(S.2.1, x)]))) 3) SL' (fun b => if b = S.2.1 then some q else if b < S.2.1 then O b else none) := by
    intro SL' g1 g2 g3 g4 g5
    refine Abs_up A hS (e' := cLL (md + 1) (ns ++ [(S.2.1, x)])) rfl (fun _ => rfl) g1 rfl (Nat.le_succ _) (fun b h1 h3 h4 => g5 b h1 h4 fun h => h3 ?_) (fun b _ h => by rw [if_neg (by omega), if_pos h])
      (fun b c h => by
        split at h
        · next hb => cases h; exact Or.inr ⟨rfl, by omega, by subst hb; exact Nat.lt_succ_self _⟩
        · split at h
          · next hb => exact Or.inl ⟨h, hb⟩
          · cases h)
      ⟨?_, ?_, fun i a y hi => ?_⟩
    · cases hj : ns[ns.length - 1]? with
      | none => simp only [lladr, hj] at h; cases h
      | some p =>
        rw [lladr_at (a := p.1) (x := p.2) hj] at h
        cases h
        exact (hn _ p.1 p.2 hj).1
    · rw [g2, lladr_app, lladr_app, List.length_append, List.length_singleton, Nat.add_sub_cancel, if_pos rfl]
      by_cases h0 : ns.length = 0
      · rw [if_pos h0, if_pos h0.symm]
      · rw [if_neg h0, if_neg (fun h => h0 h.symm)]
    · rw [List.map_append, List.nodup_append]
      refine ⟨nd, List.nodup_cons.mpr ⟨List.not_mem_nil, List.nodup_nil⟩, fun a ha b hb => ?_⟩
      rw [List.map_singleton, List.mem_singleton] at hb
      obtain ⟨p, hp, rfl⟩ := List.mem_map.mp ha
      obtain ⟨i, hi⟩ := List.mem_iff_getElem?.mp hp
      have := hno i p.1 p.2 hi
      subst hb
      simp only
      omega
    · by_cases hil : i < ns.length
      · rw [List.getElem?_append_left hil] at hi
        have hal := hno i a y hi
        refine ⟨(if_neg (by omega : ¬ a = S.2.1)).trans ((if_pos hal).trans (hn i a y hi).1), ?_⟩
        rw [lladr_app, lladr_app, if_neg (by omega : ¬ i - 1 = ns.length)]
        by_cases h1 : i = ns.length - 1
        · subst h1
          rw [if_pos (by omega)]
          exact g4 a y hi
        · rw [if_neg (by omega), g5 a (fun h => by have h5 := (hn i a y hi).2; rw [h, hq] at h5; cases h5) hal fun h => h1 ?_]
          · exact (hn i a y hi).2
          · obtain ⟨c, z, hc⟩ := ll_get (ns := ns) (i := ns.length - 1) (by omega)
            rw [lladr_at hc] at h
            cases h
            exact ll_inj nd hi hc
      · have hil2 : i = ns.length := by
          have := (List.getElem?_eq_some_iff.mp hi).1
          rw [List.length_append, List.length_singleton] at this
          omega
        subst hil2
        rw [List.getElem?_append_right (Nat.le_refl _), Nat.sub_self] at hi
        cases hi
        refine ⟨if_pos rfl, ?_⟩
        rw [g3, lladr_app, lladr_app, if_neg (by omega), lladr_ge (ns := ns) (i := ns.length + 1) (by omega)]
        by_cases h0 : ns.length = 0
        · rw [if_pos h0, lladr_ge (by omega)]
        · rw [if_neg h0, if_neg (by omega)]
  by_cases h0 : ns.length = 0
  · rw [h0] at hq
    have hl0 : ∀ i, lladr ns i = none := fun i => lladr_ge (by omega)
    rw [hl0] at hq
    refine ⟨?w_1, _, ?e_1, hpost _ ?a_1 ?b_1 ?c_1 (fun a y h => ?d_1) (fun b h1 h2 h3 => ?f_1)⟩
    case e_1 =>
      unfold n_J4_linkLast n_J4_linkLast_b38 n_J9_init nwB
      simp [gI, gR, gF, gobj, gcell, hq, asI, asR, pI, pR, pF, gfit, sup_1, spu_1, hqn, Ne.symm hqn, gd, bn]
      rfl
    case a_1 => simp only [sup, spu, ssk, A.1]
    case b_1 => simp [sup_1, hqn, h0, hsz, nI]
    case c_1 => simp [sup_1, spu_1, hsz, Ne.symm (hsz ▸ hqn), hl0]
    case d_1 => rw [List.getElem?_eq_none (by omega)] at h; cases h
    case f_1 =>
      have h5 : b ≠ SL.2.1 := by omega
      simp [sup_1, spu_1, h1, h5]
  · obtain ⟨al, xl, hxl⟩ := ll_get (ns := ns) (i := ns.length - 1) (by omega)
    obtain ⟨hOl, hal⟩ := hn _ al xl hxl
    have hlt := hno _ al xl hxl
    have hln : al ≠ SL.2.1 := by omega
    have hqa : q ≠ al := fun h => by rw [h, hal] at hq; cases hq
    have hla := lladr_at hxl
    rw [hla] at hq
    refine ⟨?w_2, _, ?e_2, hpost _ ?a_2 ?b_2 ?c_2 (fun a y h => ?d_2) (fun b h1 h2 h3 => ?f_2)⟩
    case e_2 =>
      unfold n_J4_linkLast n_J4_linkLast_b38 n_J9_init nwB
      simp [gI, gR, gF, gobj, gcell, hq, hal, asI, asR, pI, pR, pF, gfit, sup_1, spu_1, hqn, Ne.symm hqn, gd, bn, hln, Ne.symm hln, hqa, Ne.symm hqa]
      rfl
    case a_2 => simp only [sup, spu, ssk, A.1]
    case b_2 => simp [sup_1, hqn, h0, hsz, hqa, nI_succ]
    case c_2 => simp [sup_1, spu_1, hsz, Ne.symm (hsz ▸ hqn), Ne.symm (hsz ▸ hln), hla]
    case d_2 =>
      cases hxl.symm.trans h
      simp [sup_1, spu_1, hqa, Ne.symm hqa, hln, hsz]
    case f_2 =>
      have h5 : b ≠ SL.2.1 := by omega
      have h6 : b ≠ al := fun h => h3 (by rw [hla, h])
      simp [sup_1, spu_1, h1, h5, h6]
theorem ab_J4_addLast {S SL S1 : St} {O : Nat → Option Nat} {a0 x : Option Nat} {r : Unit} (h : h_J4_addLast S a0 x = some (r, S1)) (A : Abs S SL O) : ∃ SL' O', n_J4_addLast SL a0 x = some (r, SL') ∧ Abs S1 SL' O' := by
  obtain ⟨⟨q, md, ns⟩, ho, hb1⟩ := Option.bind_eq_some_iff.mp h
  obtain ⟨rfl, hS⟩ := gllc_s ho
  cases hb1
  obtain ⟨hq, -⟩ := (A.2.2.2 q _ hS).2
  obtain ⟨SL', O', h1, h2⟩ := linkLast_e (x := x) A hS
  refine ⟨SL', O', ?_, h2⟩
  unfold n_J4_addLast
  rw [grc_e hq, h1]
  rfl
theorem hm_J4_addLast {S S1 : St} {a0 x : Option Nat} {r : Unit} (h : h_J4_addLast S a0 x = some (r, S1)) : S.2.1 ≤ S1.2.1 ∧ S.2.2.1 ≤ S1.2.2.1 := by
  obtain ⟨o, h1⟩ := hm_bind h
  cases h1
  exact ⟨Nat.le_succ _, Nat.le_add_right _ _⟩
theorem ab_J4_add {S SL S1 : St} {O : Nat → Option Nat} {a0 x : Option Nat} {r : Int32} (h : h_J4_add S a0 x = some (r, S1)) (A : Abs S SL O) : ∃ SL' O', n_J4_add SL a0 x = some (r, SL') ∧ Abs S1 SL' O' := by
  obtain ⟨⟨q, md, ns⟩, ho, hb1⟩ := Option.bind_eq_some_iff.mp h
  obtain ⟨rfl, hS⟩ := gllc_s ho
  cases hb1
  obtain ⟨hq, -⟩ := (A.2.2.2 q _ hS).2
  obtain ⟨SL', O', h1, h2⟩ := linkLast_e (x := x) A hS
  refine ⟨SL', O', ?_, h2⟩
  unfold n_J4_add
  rw [grc_e hq, h1]
  rfl
theorem hm_J4_add {S S1 : St} {a0 x : Option Nat} {r : Int32} (h : h_J4_add S a0 x = some (r, S1)) : S.2.1 ≤ S1.2.1 ∧ S.2.2.1 ≤ S1.2.2.1 := by
  obtain ⟨o, h1⟩ := hm_bind h
  cases h1
  exact ⟨Nat.le_succ _, Nat.le_add_right _ _⟩
theorem clearN_e {SL0 : St} {O : Nat → Option Nat} {q : Nat} {md sz : Int32} {ns : List (Nat × Option Nat)} {fst lst : Option Nat} (nd : (ns.map (·.1)).Nodup) (hn : ∀ (i a : Nat) (x : Option Nat), ns[i]? = some (a, x) → O a = some q) (hqO : O q ≠ some q) : ∀ (n i fu : Nat) (S : St), i + n = ns.length → n < fu → S.1 q = some (cO 9 [vI md, vI sz, vR fst, vR lst]) → S.2 = SL0.2 →
    (∀ (j a : Nat) (x : Option Nat), i ≤ j → ns[j]? = some (a, x) → ∃ p, S.1 a = some (cO 11 [vR x, vR (lladr ns (j + 1)), p])) → (∀ b, b ≠ q → O b ≠ some q → S.1 b = SL0.1 b) →
    ∃ S', n_J4_clear_b5 fu S (some q) (lladr ns i) = some ((), S') ∧ S'.2 = SL0.2 ∧ S'.1 q = some (cO 9 [vI (md + 1), vI 0, vR none, vR none]) ∧ ∀ b, b ≠ q → O b ≠ some q → S'.1 b = SL0.1 b
  | 0, i, fu + 1, S, hi, hf, hq, h2, hc, hr => by
    refine ⟨sup S q (cO 9 [vI (md + 1), vI 0, vR none, vR none]), ?_, h2, sup_at _ _ _, fun b h1 h3 => by rw [sup_ne _ _ h1]; exact hr b h1 h3⟩
    rw [lladr_ge (by omega)]
    simp [n_J4_clear_b5, pI, pR, pF, gfit, gobj, gcell, hq, sup_1, sup_sup, gI, gF, asI]
  | n + 1, i, fu + 1, S, hi, hf, hq, h2, hc, hr => by
    obtain ⟨a, x, ha⟩ := ll_get (ns := ns) (i := i) (by omega)
    obtain ⟨p, hca⟩ := hc i a x (Nat.le_refl _) ha
    have hOa := hn i a x ha
    have haq : a ≠ q := fun h => hqO (h ▸ hOa)
    obtain ⟨S', g1, g2, g3, g4⟩ := clearN_e nd hn hqO n (i + 1) fu (sup S a (cO 11 [vR none, vR none, vR none])) (by omega) (by omega) (by rw [sup_ne _ _ (Ne.symm haq)]; exact hq) h2 (fun j b y hj hb => by
      obtain ⟨p2, hp2⟩ := hc j b y (by omega) hb
      exact ⟨p2, by rw [sup_ne _ _ (ll_ne nd hb ha (by omega))]; exact hp2⟩) (fun b h1 h3 => by
      have h5 : b ≠ a := fun h => h3 (by rw [h]; exact hOa)
      rw [sup_ne _ _ h5]; exact hr b h1 h3)
    refine ⟨S', ?_, g2, g3, g4⟩
    rw [lladr_at ha]
    simp [n_J4_clear_b5, gR, gF, gobj, gcell, hca, asR, pR, pF, sup_1, sup_sup]
    exact g1
theorem ab_J4_clear {S SL S1 : St} {O : Nat → Option Nat} {a0 : Option Nat} {r : Unit} (h : h_J4_clear S a0 = some (r, S1)) (A : Abs S SL O) : ∃ SL' O', n_J4_clear SL a0 = some (r, SL') ∧ Abs S1 SL' O' := by
  obtain ⟨⟨q, md, ns⟩, ho, hb1⟩ := Option.bind_eq_some_iff.mp h
  obtain ⟨rfl, hS⟩ := gllc_s ho
  simp only at hb1
  split at hb1
  case isFalse => cases hb1
  next hl =>
  cases hb1
  obtain ⟨hq, nd, hn⟩ := (A.2.2.2 q _ hS).2
  have hl2 : ns.length < 10000 := hl
  obtain ⟨S', g1, g2, g3, g4⟩ := clearN_e (SL0 := SL) (O := O) nd (fun i a x h => (hn i a x h).1) (fun h => by have := (A.2.2.1 q q h).1; rw [hS] at this; cases this) ns.length 0 FU SL (by omega) (by unfold FU; omega) hq rfl (fun j a x _ hj => ⟨_, (hn j a x hj).2⟩) (fun _ _ _ => rfl)
  refine ⟨S', O, ?_, Abs_up A hS (e' := cLL (md + 1) []) rfl (fun _ => rfl) (g2.trans A.1) rfl (Nat.le_refl _) (fun b h1 h3 _ => g4 b h1 h3) (fun _ _ _ => rfl) (fun b c h => Or.inl ⟨h, (A.2.2.1 b c h).2⟩) ⟨g3, List.nodup_nil, fun i a x hi => by cases hi⟩⟩
  unfold n_J4_clear
  simp [gR, gF, gobj, gcell, hq, asR]
  exact g1
theorem hm_J4_clear {S S1 : St} {a0 : Option Nat} {r : Unit} (h : h_J4_clear S a0 = some (r, S1)) : S.2.1 ≤ S1.2.1 ∧ S.2.2.1 ≤ S1.2.2.1 := by
  obtain ⟨o, h1⟩ := hm_bind h
  split at h1
  · cases h1
    exact ⟨Nat.le_refl _, Nat.le_refl _⟩
  · cases h1
theorem ab_J4_getLast {S SL S1 : St} {O : Nat → Option Nat} {a0 r : Option Nat} (h : h_J4_getLast S a0 = some (r, S1)) (A : Abs S SL O) : ∃ SL' O', n_J4_getLast SL a0 = some (r, SL') ∧ Abs S1 SL' O' := by
  obtain ⟨⟨q, md, ns⟩, ho, hb1⟩ := Option.bind_eq_some_iff.mp h
  obtain ⟨rfl, hS⟩ := gllc_s ho
  obtain ⟨⟨a, x⟩, hx, hb2⟩ := Option.bind_eq_some_iff.mp hb1
  cases hb2
  obtain ⟨hq, nd, hn⟩ := (A.2.2.2 q _ hS).2
  have hx2 : ns[ns.length - 1]? = some (a, x) := by rw [← List.getLast?_eq_getElem?]; exact hx
  have ha := (hn _ a x hx2).2
  rw [lladr_at hx2] at hq
  refine ⟨SL, O, ?_, A⟩
  unfold n_J4_getLast
  simp [gR, gF, gobj, gcell, hq, asR, ha]
theorem hm_J4_getLast {S S1 : St} {a0 r : Option Nat} (h : h_J4_getLast S a0 = some (r, S1)) : S.2.1 ≤ S1.2.1 ∧ S.2.2.1 ≤ S1.2.2.1 := by
  obtain ⟨o, h1⟩ := hm_bind h
  obtain ⟨n, h2⟩ := hm_bind h1
  cases h2
  exact ⟨Nat.le_refl _, Nat.le_refl _⟩
theorem ab_J4_removeLast {S SL S1 : St} {O : Nat → Option Nat} {a0 r : Option Nat} (h : h_J4_removeLast S a0 = some (r, S1)) (A : Abs S SL O) : ∃ SL' O', n_J4_removeLast SL a0 = some (r, SL') ∧ Abs S1 SL' O' := by
  obtain ⟨⟨q, md, ns⟩, ho, hb1⟩ := Option.bind_eq_some_iff.mp h
  obtain ⟨rfl, hS⟩ := gllc_s ho
  obtain ⟨⟨a, x⟩, hx, hb2⟩ := Option.bind_eq_some_iff.mp hb1
  cases hb2
  obtain ⟨hq, nd, hn⟩ := (A.2.2.2 q _ hS).2
  have hx2 : ns[ns.length - 1]? = some (a, x) := by rw [← List.getLast?_eq_getElem?]; exact hx
  have hkl := (List.getElem?_eq_some_iff.mp hx2).1
  have ha := (hn _ a x hx2).2
  have hqa : q ≠ a := fun h => by rw [h, ha] at hq; cases hq
  have e1 : nI ns.length - 1 = nI (ns.length - 1) := pk_sub (b := 1) (by omega)
  rw [lladr_ge (by omega)] at ha
  have hq2 := hq
  rw [lladr_at hx2] at hq2
  have hfin : ∀ SL', n_J4_removeLast SL (some q) = some (x, SL') → LLrem SL SL' O q md ns (ns.length - 1) → ∃ SL' O', n_J4_removeLast SL (some q) = some (x, SL') ∧ Abs (sup S q (cLL (md + 1) ns.dropLast)) SL' O' := fun SL' g1 g2 => ⟨SL', O, g1, by
    have := Abs_llrem A hS hkl g2
    rw [List.eraseIdx_eq_dropLast (by omega)] at this
    exact this⟩
  by_cases h0 : ns.length - 1 = 0
  · rw [if_pos h0] at ha
    refine hfin ?w_1 ?e_1 (LLrem_of A hS hx2 ?a_1 ?b_1 (fun b y hb h0 => by omega) (fun b y hb => ?c_1) (fun b h1 h2 h3 h4 => ?d_1))
    case e_1 =>
      unfold n_J4_removeLast n_J4_unlinkLast n_J4_unlinkLast_b42
      simp [gI, gR, gF, gobj, gcell, hq2, ha, asI, asR, pI, pR, pF, gfit, sup_1, hqa, Ne.symm hqa, e1, gd, bn, grc, gclsOf]
      rfl
    case a_1 => rfl
    case b_1 =>
      have e2 : ns.length - 1 + 1 = ns.length := by omega
      have e3 : lladr ns 1 = none := lladr_ge (by omega)
      rw [if_pos h0, if_pos e2, if_pos h0, e3]
      simp [sup_1, hqa]
    case c_1 =>
      have := (List.getElem?_eq_some_iff.mp hb).1
      omega
    case d_1 => simp [sup_1, h1, h2]
  · obtain ⟨ap, xp, hxp⟩ := ll_get (ns := ns) (i := ns.length - 1 - 1) (by omega)
    obtain ⟨hOp, hap⟩ := hn _ ap xp hxp
    have hpa : ap ≠ a := ll_ne nd hxp hx2 (by omega)
    have hqp : q ≠ ap := fun h => by rw [h, hap] at hq; cases hq
    rw [if_neg h0, lladr_at hxp] at ha
    refine hfin ?w_2 ?e_2 (LLrem_of A hS hx2 ?a_2 ?b_2 (fun b y hb h0 => ?p_2) (fun b y hb => ?c_2) (fun b h1 h2 h3 h4 => ?d_2))
    case e_2 =>
      unfold n_J4_removeLast n_J4_unlinkLast n_J4_unlinkLast_b42
      simp [gI, gR, gF, gobj, gcell, hq2, ha, hap, asI, asR, pI, pR, pF, gfit, sup_1, hqa, hpa, hqp, Ne.symm hqa, Ne.symm hpa, Ne.symm hqp, e1, gd, bn, grc, gclsOf]
      rfl
    case a_2 => rfl
    case b_2 =>
      have e2 : ns.length - 1 + 1 = ns.length := by omega
      rw [if_neg h0, if_pos e2, if_neg h0, lladr_at hxp]
      simp [sup_1, hqa, hqp]
    case p_2 =>
      cases hxp.symm.trans hb
      rw [show ns.length - 1 + 1 = ns.length by omega, lladr_ge (Nat.le_refl _)]
      simp [sup_1, hpa, Ne.symm hqp]
    case c_2 =>
      have := (List.getElem?_eq_some_iff.mp hb).1
      omega
    case d_2 =>
      have h6 : b ≠ ap := fun h => h3.elim h0 fun h3 => h3 (by rw [h]; exact lladr_at hxp)
      simp [sup_1, h1, h2, h6]
theorem hm_J4_removeLast {S S1 : St} {a0 r : Option Nat} (h : h_J4_removeLast S a0 = some (r, S1)) : S.2.1 ≤ S1.2.1 ∧ S.2.2.1 ≤ S1.2.2.1 := by
  obtain ⟨o, h1⟩ := hm_bind h
  obtain ⟨n, h2⟩ := hm_bind h1
  cases h2
  exact ⟨Nat.le_refl _, Nat.le_refl _⟩
theorem ab_J4_removeFirst {S SL S1 : St} {O : Nat → Option Nat} {a0 r : Option Nat} (h : h_J4_removeFirst S a0 = some (r, S1)) (A : Abs S SL O) : ∃ SL' O', n_J4_removeFirst SL a0 = some (r, SL') ∧ Abs S1 SL' O' := by
  obtain ⟨⟨q, md, ns⟩, ho, hb1⟩ := Option.bind_eq_some_iff.mp h
  obtain ⟨rfl, hS⟩ := gllc_s ho
  obtain ⟨⟨a, x⟩, hx, hb2⟩ := Option.bind_eq_some_iff.mp hb1
  cases hb2
  obtain ⟨hq, nd, hn⟩ := (A.2.2.2 q _ hS).2
  have hx2 : ns[0]? = some (a, x) := by rw [← List.head?_eq_getElem?]; exact hx
  have hkl := (List.getElem?_eq_some_iff.mp hx2).1
  have ha := (hn _ a x hx2).2
  have hqa : q ≠ a := fun h => by rw [h, ha] at hq; cases hq
  have e1 : nI ns.length - 1 = nI (ns.length - 1) := pk_sub (b := 1) (by omega)
  rw [if_pos rfl] at ha
  have hq2 := hq
  rw [lladr_at hx2] at hq2
  have hfin : ∀ SL', n_J4_removeFirst SL (some q) = some (x, SL') → LLrem SL SL' O q md ns 0 → ∃ SL' O', n_J4_removeFirst SL (some q) = some (x, SL') ∧ Abs (sup S q (cLL (md + 1) ns.tail)) SL' O' := fun SL' g1 g2 => ⟨SL', O, g1, by
    have := Abs_llrem A hS hkl g2
    rw [List.eraseIdx_zero] at this
    exact this⟩
  by_cases hx1 : 0 + 1 < ns.length
  · obtain ⟨an, xn, hxn⟩ := ll_get hx1
    obtain ⟨hOn, han⟩ := hn _ an xn hxn
    rw [if_neg (by decide)] at han
    have hna : an ≠ a := ll_ne nd hxn hx2 (by decide)
    have hqn : q ≠ an := fun h => by rw [h, han] at hq; cases hq
    rw [lladr_at hxn] at ha
    refine hfin ?w_1 ?e_1 (LLrem_of A hS hx2 ?a_1 ?b_1 (fun b y hb h0 => by omega) (fun b y hb => ?c_1) (fun b h1 h2 h3 h4 => ?d_1))
    case e_1 =>
      unfold n_J4_removeFirst n_J4_unlinkFirst n_J4_unlinkFirst_b42
      simp [gI, gR, gF, gobj, gcell, hq2, ha, han, asI, asR, pI, pR, pF, gfit, sup_1, hqa, hna, hqn, Ne.symm hqa, Ne.symm hna, Ne.symm hqn, e1, gd, bn, grc, gclsOf]
      rfl
    case a_1 => rfl
    case b_1 =>
      have hn1 : ¬ 1 = ns.length := by omega
      simp [sup_1, hqa, hqn, hn1, lladr_at hxn]
    case c_1 =>
      cases hxn.symm.trans hb
      simp [sup_1, hna, Ne.symm hqn]
    case d_1 =>
      have h5 : b ≠ an := fun h => h4 (by rw [h]; exact lladr_at hxn)
      simp [sup_1, h1, h2, h5]
  · rw [lladr_ge (by omega)] at ha
    have hn1 : ns.length = 1 := by omega
    refine hfin ?w_2 ?e_2 (LLrem_of A hS hx2 ?a_2 ?b_2 (fun b y hb h0 => by omega) (fun b y hb => ?c_2) (fun b h1 h2 h3 h4 => ?d_2))
    case e_2 =>
      unfold n_J4_removeFirst n_J4_unlinkFirst n_J4_unlinkFirst_b42
      simp [gI, gR, gF, gobj, gcell, hq2, ha, asI, asR, pI, pR, pF, gfit, sup_1, hqa, Ne.symm hqa, e1, gd, bn, grc, gclsOf]
      rfl
    case a_2 => rfl
    case b_2 =>
      have e3 : lladr ns 1 = none := lladr_ge (by omega)
      simp [sup_1, hqa, hn1, e3]
    case c_2 =>
      have := (List.getElem?_eq_some_iff.mp hb).1
      omega
    case d_2 => simp [sup_1, h1, h2]
theorem hm_J4_removeFirst {S S1 : St} {a0 r : Option Nat} (h : h_J4_removeFirst S a0 = some (r, S1)) : S.2.1 ≤ S1.2.1 ∧ S.2.2.1 ≤ S1.2.2.1 := by
  obtain ⟨o, h1⟩ := hm_bind h
  obtain ⟨n, h2⟩ := hm_bind h1
  cases h2
  exact ⟨Nat.le_refl _, Nat.le_refl _⟩
