/-! ArrayList over the high heap -/
theorem galc_some {S : St} {r : Option Nat} {o : Nat × Int32 × Nat × List (Option Nat)} (h : galc S r = some o) : r = some o.1 ∧ S.1 o.1 = some (cAL o.2.1 o.2.2.1 o.2.2.2) := by
  unfold galc at h
  split at h
  · next q md cap xs hc => cases h; exact gcell_some hc
  · cases h
theorem galc_s {S : St} {r : Option Nat} {q : Nat} {md : Int32} {cap : Nat} {xs : List (Option Nat)} (h : galc S r = some (q, md, cap, xs)) : r = some q ∧ S.1 q = some (cAL md cap xs) := galc_some h
theorem rtI_int {ε : Type} (inj : Int32 → ε) (x : Int32) (S : St) : rtI inj .int x S = some (inj x, S) := rfl
theorem rtI_b1 {ε : Type} (inj : Int32 → ε) (S : St) : rtI inj .boolean 1 S = some (inj 1, S) := rfl
theorem rtI_b0 {ε : Type} (inj : Int32 → ε) (S : St) : rtI inj .boolean 0 S = some (inj 0, S) := rfl
theorem spu_lt (S : St) {a : Nat} (e : CE) (n : Nat) (h : a < S.2.1) : (spu S e n).1 a = S.1 a := by
  simp only [spu]
  rw [if_neg (by omega)]
theorem spu_at (S : St) (e : CE) (n : Nat) : (spu S e n).1 S.2.1 = some e := by simp only [spu, if_true]
theorem alf_app (xs : List (Option Nat)) (x : Option Nat) : updT (alf xs) xs.length (vR x) = alf (xs ++ [x]) := by
  funext i
  simp only [updT, alf]
  by_cases h : i = xs.length
  · subst h; rw [if_pos rfl, List.getElem?_append_right (Nat.le_refl _), Nat.sub_self]; rfl
  · rw [if_neg h]
    by_cases h2 : i < xs.length
    · rw [List.getElem?_append_left h2]
    · rw [List.getElem?_eq_none (by omega), List.getElem?_eq_none (by rw [List.length_append, List.length_singleton]; omega)]
theorem alf_nil : (fun _ => gdef 4) = alf [] := rfl
theorem alf_copy (xs : List (Option Nat)) (n : Nat) (h : xs.length ≤ n) : va_cpy (alf xs) (alf []) 0 0 n = alf xs := by
  funext i
  simp only [va_cpy, alf]
  split
  · next h1 => congr 3; omega
  · rw [List.getElem?_eq_none (l := xs) (by omega)]; rfl
theorem max_e (S : St) {a b : Nat} (ha : a < 2 ^ 31) (hb : b < 2 ^ 31) : n_J7_max S (nI a) (nI b) = some (nI (max a b), S) := by
  unfold n_J7_max
  by_cases h : a < b
  · rw [if_pos ((nI_ltI ha hb).mpr h), rtI_int, Nat.max_eq_right (by omega)]; rfl
  · rw [if_neg (fun h1 => h ((nI_ltI ha hb).mp h1)), rtI_int, Nat.max_eq_left (by omega)]; rfl
theorem min_e (S : St) {a b : Nat} (ha : a < 2 ^ 31) (hb : b < 2 ^ 31) : n_J7_min S (nI a) (nI b) = some (nI (min a b), S) := by
  unfold n_J7_min
  by_cases h : b < a
  · rw [if_pos ((nI_ltI hb ha).mpr h), rtI_int, Nat.min_eq_right (by omega)]; rfl
  · rw [if_neg (fun h1 => h ((nI_ltI hb ha).mp h1)), rtI_int, Nat.min_eq_left (by omega)]; rfl
theorem okT_alf {SL : St} {xs : List (Option Nat)} (h : ∀ x ∈ xs, okst SL 4 x = true) (i : Nat) : okT SL (alf xs i) = true := by
  show okst SL 4 ((xs[i]?).getD none) = true
  cases hx : xs[i]? with
  | none => rfl
  | some x => exact h x (List.mem_of_getElem? hx)
theorem okT_up {S S' : St} {v : TV} (h : okT S v = true) (hs : ∀ q e, S.1 q = some e → gclsOf e ≠ 99 → ∃ e', S'.1 q = some e' ∧ gclsOf e' = gclsOf e) : okT S' v = true := by
  rcases v with x | r | x
  · cases h
  · exact okst_up (x := r) h hs
  · cases h
theorem acp_e {S : St} {a b n m s d k : Nat} {f g : Nat → TV} (ha : S.1 a = some (cA 4 n f)) (hb : S.1 b = some (cA 4 m g)) (hn : n < 2 ^ 30) (hm : m < 2 ^ 30) (h1 : s + k ≤ n) (h2 : d + k ≤ m) (hok : ∀ i, i < k → okT S (f (s + i)) = true) : acp S (some a) (nI s) (some b) (nI d) (nI k) = some (sup S b (cA 4 m (va_cpy f g s d k))) := by
  simp only [acp, garr_e ha, garr_e hb, Option.bind_some]
  rw [nI_clamp (n := s) (by omega), nI_clamp (n := d) (by omega), nI_clamp (n := k) (by omega), if_pos]
  exact ⟨nI_pos (by omega), nI_pos (by omega), nI_pos (by omega), h1, h2, hok⟩
theorem copyOf_e {S : St} {a n m : Nat} {f : Nat → TV} (ha : S.1 a = some (cA 4 n f)) (hal : a < S.2.1) (hn : n < 100000) (hm : m < 100000) (hnm : n ≤ m) (hok : ∀ i, i < n → okT (spu S (cA 4 m (fun _ => gdef 4)) m) (f i) = true) : n_J8_copyOf S (some a) (nI m) = some (some S.2.1, spu S (cA 4 m (va_cpy f (alf []) 0 0 n)) m) := by
  unfold n_J8_copyOf n_J8_copyOf_2
  have hne : a ≠ S.2.1 := by omega
  rw [show gcsA S (some a) = true by simp only [gcsA, gcell_e ha]; rfl, gd, if_pos rfl, if_pos rfl, naB_e S (by omega)]
  have h1 : (spu S (cA 4 m (fun _ => gdef 4)) m).1 a = some (cA 4 n f) := by simp only [spu]; rw [if_neg hne]; exact ha
  have h2 : (spu S (cA 4 m (fun _ => gdef 4)) m).1 S.2.1 = some (cA 4 m (fun _ => gdef 4)) := by simp only [spu, if_true]
  rw [aLn_e h1 (Or.inl (by omega)), Option.bind_some, bn_of (min_e _ (by omega) (by omega)), Nat.min_eq_left hnm]
  rw [show (0 : Int32) = nI 0 from rfl, acp_e (k := n) h1 h2 (by omega) (by omega) (by omega) (by omega) (fun i hi => ?_)]
  · rw [Option.bind_some]
    show some (some S.2.1, sup _ _ _) = some (some S.2.1, _)
    congr 2
    refine Prod.ext (funext fun b => ?_) rfl
    simp only [sup, spu, alf_nil]
    split <;> rfl
  · rw [Nat.zero_add]
    exact hok i hi
/-- a storable reference of the high heap, in a plain heap that has kept its class -/
theorem okst_lo2 {S SL S' : St} {O : Nat → Option Nat} (A : Abs S SL O) {x : Option Nat} (h : okst S 4 x = true) (hs : ∀ q e, q < S.2.1 → SL.1 q = some e → gclsOf e ≠ 99 → ∃ e', S'.1 q = some e' ∧ gclsOf e' = gclsOf e) : okst S' 4 x = true :=
  okst_up h fun q e he h9 => by
    obtain ⟨g1, g2⟩ := A.2.2.2 q e he
    obtain ⟨e', g3, g4⟩ := absE_cls g2
    obtain ⟨e2, g5, g6⟩ := hs q e' g1 g3 (by rw [g4]; exact h9)
    exact ⟨e2, g5, g6.trans g4⟩
theorem okT_lo2 {S SL S' : St} {O : Nat → Option Nat} (A : Abs S SL O) {xs : List (Option Nat)} (h : ∀ x ∈ xs, okst S 4 x = true) (hs : ∀ q e, q < S.2.1 → SL.1 q = some e → gclsOf e ≠ 99 → ∃ e', S'.1 q = some e' ∧ gclsOf e' = gclsOf e) (i : Nat) : okT S' (alf xs i) = true := by
  show okst S' 4 ((xs[i]?).getD none) = true
  cases hx : xs[i]? with
  | none => rfl
  | some x => exact okst_lo2 A (h x (List.mem_of_getElem? hx)) hs
/-- the array behind an ArrayList, of either kind -/
theorem aAL_arr {S SL : St} {O : Nat → Option Nat} {q cap : Nat} {md : Int32} {xs : List (Option Nat)} (A : Abs S SL O) (hS : S.1 q = some (cAL md cap xs)) : ∃ a k f, SL.1 q = some (cO 8 [vI md, vR (some a), vI (nI xs.length)]) ∧ SL.1 a = some (cA k cap f) ∧ a ≠ q ∧ a < S.2.1 ∧ (∀ x ∈ xs, okst S 4 x = true) ∧ xs.length ≤ cap ∧ cap < 10000 ∧ ((cap = 0 ∧ k = 14 ∧ a = S.2.2.2 0) ∨ (0 < cap ∧ k = 4 ∧ f = alf xs ∧ O a = some q)) := by
  obtain ⟨h1, h2, h3, h4⟩ := (A.2.2.2 q _ hS).2
  rcases h4 with ⟨h4, h5⟩ | ⟨h4, a, h5, h6, h7⟩
  · obtain ⟨⟨f, d1⟩, d2, d3, d4⟩ := A.2.1
    subst h4
    exact ⟨_, 14, f, h5, d1, (fun h => by rw [h, hS] at d2; cases d2), d4, h1, h2, h3, Or.inl ⟨rfl, rfl, rfl⟩⟩
  · exact ⟨a, 4, _, h5, h7, (fun h => by rw [h] at h6; have := (A.2.2.1 q q h6).1; rw [hS] at this; cases this), (A.2.2.1 a q h6).2, h1, h2, h3, Or.inr ⟨h4, rfl, rfl, h6⟩⟩
/-! methods that only read -/
theorem ab_J2_size {S SL S1 : St} {O : Nat → Option Nat} {a0 : Option Nat} {r : Int32} (h : h_J2_size S a0 = some (r, S1)) (A : Abs S SL O) : ∃ SL' O', n_J2_size SL a0 = some (r, SL') ∧ Abs S1 SL' O' := by
  obtain ⟨⟨q, md, cap, xs⟩, ho, hb⟩ := Option.bind_eq_some_iff.mp h
  obtain ⟨rfl, hS⟩ := galc_s ho
  cases hb
  obtain ⟨a, k, f, hq, -⟩ := aAL_arr A hS
  exact ⟨SL, O, by unfold n_J2_size; rw [gI_e hq]; rfl, A⟩
theorem hm_J2_size {S S1 : St} {a0 : Option Nat} {r : Int32} (h : h_J2_size S a0 = some (r, S1)) : S.2.1 ≤ S1.2.1 ∧ S.2.2.1 ≤ S1.2.2.1 := by
  obtain ⟨o, ho, h⟩ := Option.bind_eq_some_iff.mp h
  cases h
  exact ⟨Nat.le_refl _, Nat.le_refl _⟩
theorem ab_J2_isEmpty {S SL S1 : St} {O : Nat → Option Nat} {a0 : Option Nat} {r : Int32} (h : h_J2_isEmpty S a0 = some (r, S1)) (A : Abs S SL O) : ∃ SL' O', n_J2_isEmpty SL a0 = some (r, SL') ∧ Abs S1 SL' O' := by
  obtain ⟨⟨q, md, cap, xs⟩, ho, hb⟩ := Option.bind_eq_some_iff.mp h
  obtain ⟨rfl, hS⟩ := galc_s ho
  cases hb
  obtain ⟨a, k, f, hq, -, -, -, -, h1, h2, -⟩ := aAL_arr A hS
  refine ⟨SL, O, ?_, A⟩
  unfold n_J2_isEmpty
  rw [gI_e hq]
  show (if nI xs.length = 0 then _ else _) = _
  by_cases h0 : xs.length = 0
  · rw [if_pos (by rw [h0]; rfl), if_pos h0]; rfl
  · rw [if_neg (nI_ne0 (by omega) (by omega)), if_neg h0]; rfl
theorem hm_J2_isEmpty {S S1 : St} {a0 : Option Nat} {r : Int32} (h : h_J2_isEmpty S a0 = some (r, S1)) : S.2.1 ≤ S1.2.1 ∧ S.2.2.1 ≤ S1.2.2.1 := by
  obtain ⟨o, ho, h⟩ := Option.bind_eq_some_iff.mp h
  cases h
  exact ⟨Nat.le_refl _, Nat.le_refl _⟩
theorem chk_e (S : St) {i n : Nat} (hi : i < n) (hn : n < 2 ^ 31) : n_J16_checkIndex S (nI i) (nI n) = some (nI i, S) := by
  unfold n_J16_checkIndex n_J17_checkIndex
  rw [if_neg (nI_pos (by omega)), if_pos (nI_lt hi hn)]
  rfl
theorem alf_at {xs : List (Option Nat)} {i : Nat} {x : Option Nat} (h : xs[i]? = some x) : alf xs i = vR x := by simp only [alf, h]; rfl
theorem aR_e {S : St} {q k n i : Nat} {f : Nat → TV} {x : Option Nat} (h : S.1 q = some (cA k n f)) (hi : i < n) (hn : n < 2 ^ 31) (hx : f i = vR x) : aR S (some q) k (nI i) = some x := by
  simp only [aR, aV_e h hi hn, Option.bind_some, hx]
  rfl
theorem ab_J2_get {S SL S1 : St} {O : Nat → Option Nat} {a0 : Option Nat} {i : Int32} {r : Option Nat} (h : h_J2_get S a0 i = some (r, S1)) (A : Abs S SL O) : ∃ SL' O', n_J2_get SL a0 i = some (r, SL') ∧ Abs S1 SL' O' := by
  obtain ⟨⟨q, md, cap, xs⟩, ho, hb⟩ := Option.bind_eq_some_iff.mp h
  obtain ⟨rfl, hS⟩ := galc_s ho
  simp only at hb
  split at hb
  · cases hb
  · next hi0 =>
    obtain ⟨x, hx, hb2⟩ := Option.bind_eq_some_iff.mp hb
    cases hb2
    obtain ⟨j, hj, rfl⟩ := nI_of hi0
    rw [nI_clamp hj] at hx
    have hjl : j < xs.length := (List.getElem?_eq_some_iff.mp hx).1
    obtain ⟨a, k, f, hq, ha, -, -, -, h1, h2, h3⟩ := aAL_arr A hS
    obtain ⟨h3, -, -⟩ | ⟨h3, rfl, rfl, -⟩ := h3
    · omega
    refine ⟨SL, O, ?_, A⟩
    unfold n_J2_get n_J2_elementData
    rw [gI_e hq]
    show bn (n_J16_checkIndex SL (nI j) (nI xs.length)) _ = _
    rw [bn_of (chk_e SL hjl (by omega)), grc_e hq]
    show bn ((gR SL (some q) 8 1).bind _) _ = _
    rw [gR_e hq]
    show bn ((aR SL (some a) 4 (nI j)).bind _) _ = _
    rw [aR_e ha (by omega) (by omega) (alf_at hx)]
    rfl
theorem hm_J2_get {S S1 : St} {a0 : Option Nat} {i : Int32} {r : Option Nat} (h : h_J2_get S a0 i = some (r, S1)) : S.2.1 ≤ S1.2.1 ∧ S.2.2.1 ≤ S1.2.2.1 := by
  obtain ⟨o, ho, h⟩ := Option.bind_eq_some_iff.mp h
  split at h
  · cases h
  · obtain ⟨x, hx, h⟩ := Option.bind_eq_some_iff.mp h
    cases h
    exact ⟨Nat.le_refl _, Nat.le_refl _⟩
/-! a new list -/
theorem ab_J2_init {S SL S1 : St} {O : Nat → Option Nat} {a0 : Option Nat} {r : Unit} (h : h_J2_init S a0 = some (r, S1)) (A : Abs S SL O) : ∃ SL' O', n_J2_init SL a0 = some (r, SL') ∧ Abs S1 SL' O' := by
  obtain ⟨⟨q, fs⟩, ho, hb⟩ := Option.bind_eq_some_iff.mp h
  obtain ⟨rfl, hS⟩ := gobj_some ho
  simp only at hb
  split at hb
  case isFalse => cases hb
  next hf =>
  subst hf
  cases hb
  have hq : SL.1 q = some (cO 8 [vI 0, vR none, vI 0]) := (A.2.2.2 q _ hS).2
  have hc : SL.2.2.2 = S.2.2.2 := by rw [A.1]
  refine ⟨sup SL q (cO 8 [vI 0, vR (some (S.2.2.2 0)), vI 0]), O, ?_, Abs_upO A hS (e' := cAL 0 0 []) rfl _ ⟨fun x hx => (nomatch hx), Nat.le_refl _, by omega, Or.inl ⟨rfl, sup_at _ _ _⟩⟩⟩
  unfold n_J2_init n_J1_init_8 n_J0_init
  show (bn (bn (some ((), SL)) fun _ S1 => (pI .int S1 (some q) 8 0 0).bind fun S3 => some ((), S3)) _) = _
  simp only [bn, pI_e hq]
  show (pR (sup SL q _) (some q) 8 1 _).bind _ = _
  rw [pR_e (sup_at _ _ _)]
  show some ((), sup _ _ _) = _
  rw [sup_sup, ← hc]
  rfl
theorem hm_J2_init {S S1 : St} {a0 : Option Nat} {r : Unit} (h : h_J2_init S a0 = some (r, S1)) : S.2.1 ≤ S1.2.1 ∧ S.2.2.1 ≤ S1.2.2.1 := by
  obtain ⟨o, ho, h⟩ := Option.bind_eq_some_iff.mp h
  split at h
  · cases h; exact ⟨Nat.le_refl _, Nat.le_refl _⟩
  · cases h
theorem newLen_e (S : St) {a b c : Nat} (ha : 0 < a) (hb : a < 100000) (hc : b < 100000) (hd : c < 100000) : n_J6_newLength S (nI a) (nI b) (nI c) = some (nI (a + max b c), S) := by
  unfold n_J6_newLength
  rw [bn_of (max_e S (by omega) (by omega)), nI_add, if_neg (nI_nle (by omega) (by omega)), show (2147483639 : Int32) = nI 2147483639 from rfl, if_neg (nI_nlt (by omega) (by omega))]
  rfl
theorem grow_e {S SL : St} {O : Nat → Option Nat} {q a k cap : Nat} {f : Nat → TV} {md md' : Int32} {xs : List (Option Nat)} (A : Abs S SL O) (hS : S.1 q = some (cAL md cap xs)) (hq : SL.1 q = some (cO 8 [vI md, vR (some a), vI (nI xs.length)])) (ha : SL.1 a = some (cA k cap f)) (haq : a ≠ q) (hal : a < S.2.1) (hok : ∀ x ∈ xs, okst S 4 x = true) (hle : cap = xs.length) (hlt : cap < 1000) (hk : (cap = 0 ∧ k = 14 ∧ a = S.2.2.2 0) ∨ (0 < cap ∧ k = 4 ∧ f = alf xs ∧ O a = some q)) :
    n_J2_grow (sup SL q (cO 8 [vI md', vR (some a), vI (nI xs.length)])) (some q) = some (some S.2.1, sup (spu SL (cA 4 (alcap cap xs.length) (alf xs)) (alcap cap xs.length)) q (cO 8 [vI md', vR (some S.2.1), vI (nI xs.length)])) := by
  have hql := (A.2.2.2 q _ hS).1
  have hsz : SL.2.1 = S.2.1 := by rw [A.1]
  have hcn : SL.2.2.2 = S.2.2.2 := by rw [A.1]
  unfold n_J2_grow
  have hq1 := sup_at SL q (cO 8 [vI md', vR (some a), vI (nI xs.length)])
  have ha1 : (sup SL q (cO 8 [vI md', vR (some a), vI (nI xs.length)])).1 a = some (cA k cap f) := by rw [sup_ne _ _ haq]; exact ha
  rw [gI_e hq1]
  show gd _ (bn (n_J2_grow_2 _ _ (nI xs.length + 1)) _) = _
  rw [grc_e hq1, ← nI_succ]
  show bn (n_J2_grow_2 _ _ (nI (xs.length + 1))) _ = _
  have key : n_J2_grow_2 (sup SL q (cO 8 [vI md', vR (some a), vI (nI xs.length)])) (some q) (nI (xs.length + 1)) = some (some S.2.1, sup (spu SL (cA 4 (alcap cap xs.length) (alf xs)) (alcap cap xs.length)) q (cO 8 [vI md', vR (some S.2.1), vI (nI xs.length)])) := by
    unfold n_J2_grow_2
    rw [gR_e hq1]
    show (aLn _ (some a)).bind _ = _
    rcases hk with ⟨h0, rfl, rfl⟩ | ⟨h0, rfl, rfl, hO⟩
    · rw [aLn_e ha1 (Or.inr (by omega)), Option.bind_some]
      subst h0
      have hx0 : xs.length = 0 := by omega
      rw [if_neg (by decide)]
      show (if some (S.2.2.2 0) = some (SL.2.2.2 0) then _ else _) = _
      rw [if_pos (by rw [hcn]), hx0]
      rw [show (10 : Int32) = nI 10 from rfl, bn_of (max_e _ (by omega) (by omega)), naB_e _ (by omega)]
      have h2 : (spu (sup SL q (cO 8 [vI md', vR (some (S.2.2.2 0)), vI (nI 0)])) (cA 4 10 (fun _ => gdef 4)) 10).1 q = some (cO 8 [vI md', vR (some (S.2.2.2 0)), vI (nI 0)]) := by
        rw [spu_lt _ _ _ (by show q < SL.2.1; omega)]
        exact sup_at _ _ _
      rw [show max 10 (0 + 1) = 10 from rfl, pR_e h2]
      show some (some SL.2.1, sup _ _ _) = _
      rw [hsz]
      have hxs : xs = [] := List.length_eq_zero_iff.mp hx0
      subst hxs
      refine congrArg some (Prod.ext rfl (Prod.ext (funext fun b => ?_) rfl))
      show (sup (spu (sup SL q _) _ 10) q _).1 b = _
      simp only [sup, spu, hsz]
      by_cases hb : b = q
      · rw [if_pos hb, if_pos hb]; rfl
      · rw [if_neg hb, if_neg hb, if_neg hb]
        rfl
    · rw [aLn_e ha1 (Or.inl (by omega)), Option.bind_some, if_pos (show (0 : Int32) < nI cap from nI_lt (a := 0) h0 (by omega))]
      unfold n_J2_grow_2_b20
      rw [hle, pk_sub (by omega), show xs.length + 1 - xs.length = 1 by omega, pk_shrN (by omega) _ 1 (by decide), bn_of (newLen_e _ (by omega) (by omega) (by omega) (by omega)), gR_e hq1]
      subst hle
      show bn (n_J8_copyOf _ (some a) _) _ = _
      have hac : alcap xs.length xs.length = xs.length + max 1 (xs.length / 2 ^ 1) := by
        unfold alcap
        rw [if_neg (by omega), if_neg (by omega)]
      rw [hac]
      rw [bn_of (copyOf_e ha1 (by show a < SL.2.1; omega) (by omega) (by omega) (by omega) fun i _ => okT_lo2 A hok (fun b e hb he h9 => ?_) i)]
      · rw [alf_copy _ _ (Nat.le_refl _)]
        have h2 : (spu (sup SL q (cO 8 [vI md', vR (some a), vI (nI xs.length)])) (cA 4 (xs.length + max 1 (xs.length / 2 ^ 1)) (alf xs)) (xs.length + max 1 (xs.length / 2 ^ 1))).1 q = some (cO 8 [vI md', vR (some a), vI (nI xs.length)]) := by
          rw [spu_lt _ _ _ (by show q < SL.2.1; omega)]
          exact sup_at _ _ _
        rw [pR_e h2]
        show some (some SL.2.1, sup _ _ _) = _
        rw [hsz]
        refine congrArg some (Prod.ext rfl (Prod.ext (funext fun b => ?_) rfl))
        show (sup (spu (sup SL q _) _ _) q _).1 b = _
        simp only [sup, spu, hsz]
        by_cases hb : b = q
        · rw [if_pos hb, if_pos hb]; rfl
        · rw [if_neg hb, if_neg hb, if_neg hb]
      · rw [spu_lt _ _ _ (by show b < SL.2.1; omega)]
        by_cases hbq : b = q
        · subst hbq
          cases he.symm.trans hq
          exact ⟨_, sup_at _ _ _, rfl⟩
        · exact ⟨e, by rw [sup_ne _ _ hbq]; exact he, rfl⟩
  rw [bn_of key]
theorem okst_sup {S : St} {q : Nat} {e e' : CE} (hS : S.1 q = some e) (hc : gclsOf e' = gclsOf e) {k : Nat} {x : Option Nat} (h : okst S k x = true) : okst (sup S q e') k x = true :=
  okst_up h fun b eb hb _ => by
    by_cases hbq : b = q
    · subst hbq
      cases hS.symm.trans hb
      exact ⟨e', sup_at _ _ _, hc⟩
    · exact ⟨eb, by rw [sup_ne _ _ hbq]; exact hb, rfl⟩
theorem spu_1 (S : St) (e : CE) (n a : Nat) : (spu S e n).1 a = if a = S.2.1 then some e else S.1 a := rfl
theorem ssk_1 (S : St) (n : Nat) : (ssk S n).1 = S.1 := rfl
theorem Abs_al {S SL SL' : St} {O : Nat → Option Nat} {q a cap : Nat} {md md' : Int32} {xs xs' : List (Option Nat)} (A : Abs S SL O) (hS : S.1 q = some (cAL md cap xs)) (hO : O a = some q) (h0 : 0 < cap) (hc : cap < 10000) (hl : xs'.length ≤ cap) (hok : ∀ x ∈ xs', okst S 4 x = true)
    (h2 : SL'.2 = SL.2) (hq : SL'.1 q = some (cO 8 [vI md', vR (some a), vI (nI xs'.length)])) (ha : SL'.1 a = some (cA 4 cap (alf xs'))) (hr : ∀ b, b ≠ q → b ≠ a → SL'.1 b = SL.1 b) : Abs (sup S q (cAL md' cap xs')) SL' O :=
  Abs_up A hS (e' := cAL md' cap xs') rfl (fun _ => rfl) (h2.trans A.1) rfl (Nat.le_refl _) (fun b h1 h3 _ => hr b h1 fun h => h3 (h ▸ hO)) (fun _ _ _ => rfl) (fun b c h => Or.inl ⟨h, (A.2.2.1 b c h).2⟩)
    ⟨fun x hx => okst_sup hS (e' := cAL md' cap xs') rfl (hok x hx), hl, hc, Or.inr ⟨h0, a, hq, hO, ha⟩⟩
theorem Abs_alg {S SL SL' : St} {O : Nat → Option Nat} {q cap cap' : Nat} {md md' : Int32} {xs xs' : List (Option Nat)} (A : Abs S SL O) (hS : S.1 q = some (cAL md cap xs)) (h0 : 0 < cap') (hc : cap' < 10000) (hl : xs'.length ≤ cap') (hok : ∀ x ∈ xs', okst S 4 x = true)
    (h2 : SL'.2 = (ssk S cap').2) (hq : SL'.1 q = some (cO 8 [vI md', vR (some S.2.1), vI (nI xs'.length)])) (ha : SL'.1 S.2.1 = some (cA 4 cap' (alf xs'))) (hr : ∀ b, b ≠ q → b < S.2.1 → SL'.1 b = SL.1 b) : Abs (ssk (sup S q (cAL md' cap' xs')) cap') SL' (fun b => if b = S.2.1 then some q else if b < S.2.1 then O b else none) :=
  Abs_up A hS (e' := cAL md' cap' xs') rfl (fun _ => rfl) h2 rfl (Nat.le_succ _) (fun b h1 _ h3 => hr b h1 h3) (fun b _ h => by rw [if_neg (by omega), if_pos h])
    (fun b c h => by
      split at h
      · next hb => cases h; exact Or.inr ⟨rfl, by omega, by subst hb; exact Nat.lt_succ_self _⟩
      · split at h
        · next hb => exact Or.inl ⟨h, hb⟩
        · cases h)
    ⟨fun x hx => okst_sup hS (e' := cAL md' cap' xs') rfl (hok x hx), hl, hc, Or.inr ⟨h0, S.2.1, hq, if_pos rfl, ha⟩⟩
theorem alcap_lt {cap n : Nat} (h : n < cap) : alcap cap n = cap := if_pos h
theorem alcap_ge {cap n : Nat} (h : cap ≤ n) (hn : n < 1000) : cap < alcap cap n ∧ alcap cap n ≤ cap + max 10 (cap / 2) := by
  unfold alcap
  rw [if_neg (by omega)]
  split
  · omega
  · omega
theorem sR_e2 {S : St} {q n i : Nat} {f : Nat → TV} {x : Option Nat} {i' : Int32} (hi' : i' = nI i) (ho : okst S 4 x = true) (h : S.1 q = some (cA 4 n f)) (hi : i < n) (hn : n < 2 ^ 31) : sR S (some q) 4 i' x = some (sup S q (cA 4 n (updT f i (vR x)))) := by
  subst hi'; exact sR_e ho h hi hn
theorem ab_J2_add {S SL S1 : St} {O : Nat → Option Nat} {a0 x : Option Nat} {r : Int32} (h : h_J2_add S a0 x = some (r, S1)) (A : Abs S SL O) : ∃ SL' O', n_J2_add SL a0 x = some (r, SL') ∧ Abs S1 SL' O' := by
  obtain ⟨⟨q, md, cap, xs⟩, ho, hb⟩ := Option.bind_eq_some_iff.mp h
  obtain ⟨rfl, hS⟩ := galc_s ho
  simp only at hb
  split at hb
  case isFalse => cases hb
  next hg =>
  obtain ⟨hx, hlen⟩ := hg
  cases hb
  obtain ⟨a, k, f, hq, ha, haq, hal, hok, hle, hcap, hk⟩ := aAL_arr A hS
  have hql := (A.2.2.2 q _ hS).1
  have hsz : SL.2.1 = S.2.1 := by rw [A.1]
  have hok2 : ∀ y ∈ xs ++ [x], okst S 4 y = true := fun y hy => by
    rcases List.mem_append.mp hy with hy | hy
    · exact hok y hy
    · rw [List.mem_singleton.mp hy]; exact hx
  have hl1 : (xs ++ [x]).length = xs.length + 1 := by rw [List.length_append, List.length_singleton]
  have hstart : n_J2_add SL (some q) x = bn (n_J2_add_2 (sup SL q (cO 8 [vI (md + 1), vR (some a), vI (nI xs.length)])) (some q) x (some a) (nI xs.length)) fun _ S5 => rtI id (Jvm.ClassFile.FieldType.boolean) (1 : Int32) S5 := by
    unfold n_J2_add
    simp [gI, gR, gF, gobj, gcell, pI, pF, gfit, hq, sup_1, asI, asR, grc, gclsOf, gd]
  rw [hstart]
  unfold n_J2_add_2
  have hlnc : aLn (sup SL q (cO 8 [vI (md + 1), vR (some a), vI (nI xs.length)])) (some a) = some (nI cap) := by
    rcases hk with ⟨-, rfl, -⟩ | ⟨-, rfl, -⟩ <;> simp [aLn, gcell, sup_1, haq, ha, nI]
  by_cases hn : xs.length < cap
  · have hk4 : k = 4 ∧ f = alf xs ∧ O a = some q := by
      rcases hk with ⟨h0, -⟩ | ⟨-, h1⟩
      · omega
      · exact h1
    obtain ⟨rfl, rfl, hO⟩ := hk4
    have hx2 : okst (sup SL q (cO 8 [vI (md + 1), vR (some a), vI (nI xs.length)])) 4 x = true := okst_sup hq (e' := cO 8 [vI (md + 1), vR (some a), vI (nI xs.length)]) rfl (okst_lo A hx)
    have hne : ¬ nI xs.length = nI cap := fun h => absurd ((nI_eq (by omega) (by omega)).mp h) (by omega)
    have hsr := sR_e (i := xs.length) hx2 (q := a) (n := cap) (f := alf xs) (by simp [sup_1, haq, ha]) hn (by omega)
    refine ⟨sup (sup (sup SL q (cO 8 [vI (md + 1), vR (some a), vI (nI xs.length)])) a (cA 4 cap (alf (xs ++ [x])))) q (cO 8 [vI (md + 1), vR (some a), vI (nI xs.length + 1)]), O, ?_, ?_⟩
    · simp [n_J2_add_2_b11, hlnc, hsr, gcell, sup_1, haq, ha, hne, alf_app, pI, pF, gfit, gobj, bn, rtI, Ne.symm haq]
    · simp only [algrow, if_pos hn, alcap_lt hn]
      refine Abs_al A hS hO (by omega) hcap (by omega) hok2 rfl ?_ ?_ ?_
      · rw [sup_at, hl1, nI_succ]
      · rw [sup_ne _ _ haq, sup_at]
      · intro b hbq hba
        rw [sup_ne _ _ hbq, sup_ne _ _ hba, sup_ne _ _ hbq]
  · have he : cap = xs.length := by omega
    subst he
    have hx2 : okst (sup (spu SL (cA 4 (alcap xs.length xs.length) (alf xs)) (alcap xs.length xs.length)) q (cO 8 [vI (md + 1), vR (some S.2.1), vI (nI xs.length)])) 4 x = true := okst_lo2 A hx fun b e hb2 hbe _ => by
      by_cases hbq : b = q
      · subst hbq
        cases hbe.symm.trans hq
        exact ⟨_, sup_at _ _ _, rfl⟩
      · exact ⟨e, by rw [sup_ne _ _ hbq, spu_lt _ _ _ (by omega)]; exact hbe, rfl⟩
    have hgr := grow_e (md' := md + 1) A hS hq ha haq hal hok rfl (by omega) hk
    have hag := alcap_ge (cap := xs.length) (n := xs.length) (by omega) hlen
    have hqn : S.2.1 ≠ q := by omega
    have hsr := sR_e (i := xs.length) hx2 (q := S.2.1) (n := alcap xs.length xs.length) (f := alf xs) (by simp [sup_1, spu_1, hqn, hsz]) (by omega) (by omega)
    refine ⟨sup (sup (sup (spu SL (cA 4 (alcap xs.length xs.length) (alf xs)) (alcap xs.length xs.length)) q (cO 8 [vI (md + 1), vR (some S.2.1), vI (nI xs.length)])) S.2.1 (cA 4 (alcap xs.length xs.length) (alf (xs ++ [x])))) q (cO 8 [vI (md + 1), vR (some S.2.1), vI (nI xs.length + 1)]), fun b => if b = S.2.1 then some q else if b < S.2.1 then O b else none, ?_, ?_⟩
    rotate_left
    · simp only [algrow, if_neg hn]
      refine Abs_alg A hS (by omega) (by omega) (by omega) hok2 (by simp only [sup, spu, ssk, A.1]) ?_ ?_ ?_
      · rw [sup_at, hl1, nI_succ]
      · rw [sup_ne _ _ hqn, sup_at]
      · intro b hbq hbl
        rw [sup_ne _ _ hbq, sup_ne _ _ (by omega), sup_ne _ _ hbq, spu_lt _ _ _ (by omega)]
    · simp [hlnc, grc, gcell, sup_1, gclsOf, gd, hgr, bn, n_J2_add_2_b11, hsr, alf_app, pI, pF, gfit, gobj, Ne.symm hqn, rtI]
