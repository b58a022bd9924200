/-! THE KEEPER's heap: who owns which cell; lists and their iterators -/
/-- by address: whose it is (0: nobody's), and which one; by kind and number: the address -/
abbrev GA : Type := (Nat → Nat × Nat) × (Nat → Nat → Nat)
/-- from one heap to another: only cells of these kinds change, only addresses of those kinds -/
def KX (T U : List Nat) (n : Nat) (g : GA) (S : St) (g' : GA) (S' : St) : Prop := 0 ∈ T ∧ (∀ a, (g.1 a).1 ∉ T → S'.1 a = S.1 a) ∧ (∀ a, (g.1 a).1 ≠ 0 → g'.1 a = g.1 a) ∧ (∀ t, t ∉ U → g'.2 t = g.2 t) ∧ S.2.1 ≤ S'.2.1 ∧ S'.2.1 ≤ S.2.1 + n ∧ S'.2.2.1 ≤ S.2.2.1 + 5 * n ∧ S'.2.2.2 = S.2.2.2
/-- nothing is owned beyond the heap's end -/
def FR (g : GA) (S : St) : Prop := ∀ a, S.2.1 ≤ a → (g.1 a).1 = 0
def Ch (a c : Nat) (S S' : St) : Prop := (∀ b, b ≠ a → S'.1 b = S.1 b) ∧ S.2.1 ≤ S'.2.1 ∧ S'.2.1 ≤ S.2.1 + c ∧ S'.2.2.1 ≤ S.2.2.1 + 5 * c ∧ S'.2.2.2 = S.2.2.2
def isAL (S : St) (a : Nat) (xs : List (Option Nat)) : Prop := ∃ md cap, S.1 a = some (cAL md cap xs)
def isLL (S : St) (a : Nat) (xs : List (Option Nat)) : Prop := ∃ md ns, S.1 a = some (cLL md ns) ∧ ns.map (·.2) = xs
def isDQ (S : St) (a : Nat) (xs : List (Option Nat)) : Prop := ∃ cap, (cap = 17 ∨ cap = 36 ∨ cap = 74) ∧ S.1 a = some (cDQ cap xs)
/-- what a deque's growth may still cost -/
def dqG (S : St) (a : Nat) : Nat := match S.1 a with
  | some (.inr (.inr (.inr (.inr (.inl (cap, _)))))) => if cap = 17 then 23 else if cap = 36 then 15 else 0
  | _ => 0
/-- the room of a list -/
def alK (S : St) (a : Nat) : Nat := match S.1 a with
  | some (.inr (.inr (.inl (_, cap, _)))) => cap
  | _ => 0
section
variable {S S' S'' S1 : St} {g g' g'' : GA} {T U T' U' : List Nat} {n m a b c d : Nat} {xs : List (Option Nat)} {x : Option Nat}
theorem KX_rf (h0 : 0 ∈ T) : KX T U 0 g S g S := ⟨h0, fun _ _ => rfl, fun _ _ => rfl, fun _ _ => rfl, Nat.le_refl _, Nat.le_refl _, Nat.le_refl _, rfl⟩
theorem KX_tr (h : KX T U n g S g' S') (k : KX T U m g' S' g'' S'') : KX T U (n + m) g S g'' S'' := by
  obtain ⟨h0, h1, h2, h3, h5, h6, h7, h8⟩ := h
  obtain ⟨k0, k1, k2, k3, k5, k6, k7, k8⟩ := k
  refine ⟨h0, fun a ha => ?_, fun a ha => ?_, fun t ht => (k3 t ht).trans (h3 t ht), by omega, by omega, by omega, k8.trans h8⟩
  · have e : (g.1 a).1 ≠ 0 := fun z => ha (by rw [z]; exact h0)
    rw [← h1 a ha]
    exact k1 a (by rw [h2 a e]; exact ha)
  · rw [← h2 a ha]; exact k2 a (by rw [h2 a ha]; exact ha)
theorem KX_up (h : KX T U n g S g' S') (hT : ∀ t ∈ T, t ∈ T') (hU : ∀ t ∈ U, t ∈ U') (hn : n ≤ m) : KX T' U' m g S g' S' := by
  obtain ⟨h0, h1, h2, h3, h5, h6, h7, h8⟩ := h
  exact ⟨hT 0 h0, fun a ha => h1 a fun z => ha (hT _ z), h2, fun t ht => h3 t fun z => ht (hU _ z), h5, by omega, by omega, h8⟩
theorem KX_n (h : KX T U n g S g' S') (hn : n ≤ m) : KX T U m g S g' S' := KX_up h (fun _ z => z) (fun _ z => z) hn
theorem Ch_rf : Ch a 0 S S := ⟨fun _ _ => rfl, Nat.le_refl _, Nat.le_refl _, Nat.le_refl _, rfl⟩
theorem Ch_tr (h : Ch a c S S') (k : Ch a d S' S'') : Ch a (c + d) S S'' := ⟨fun b hb => (k.1 b hb).trans (h.1 b hb), by have := h.2.1; have := k.2.1; omega, by have := h.2.2.1; have := k.2.2.1; omega, by have := h.2.2.2.1; have := k.2.2.2.1; omega, k.2.2.2.2.trans h.2.2.2.2⟩
theorem Ch_n (h : Ch a c S S') (hn : c ≤ d) : Ch a d S S' := ⟨h.1, h.2.1, by have := h.2.2.1; omega, by have := h.2.2.2.1; omega, h.2.2.2.2⟩
theorem Ch_sup (e : CE) : Ch a 0 S (sup S a e) := ⟨fun b hb => sup_ne S e hb, Nat.le_refl _, Nat.le_refl _, Nat.le_refl _, rfl⟩
theorem Ch_spu (e : CE) (h : m ≤ 5 * c) (h1 : 1 ≤ c) : Ch S.2.1 c S (spu S e m) := ⟨fun b hb => by simp only [spu, if_neg hb], by simp [spu], by simp only [spu]; omega, by simp only [spu]; omega, rfl⟩
theorem Ch_ssk (h : m ≤ 5 * c) (h1 : 1 ≤ c) : Ch a c S (ssk S m) := ⟨fun b hb => rfl, by simp [ssk], by simp only [ssk]; omega, by simp only [ssk]; omega, rfl⟩
theorem KX_ch (h : Ch a c S S') (h0 : 0 ∈ T) (ha : (g.1 a).1 ∈ T) : KX T U c g S g S' := ⟨h0, fun b hb => h.1 b fun e => hb (e ▸ ha), fun _ _ => rfl, fun _ _ => rfl, h.2.1, h.2.2.1, h.2.2.2.1, h.2.2.2.2⟩
theorem KX_new (hF : FR g S) (h : Ch S.2.1 c S S') (h0 : 0 ∈ T) : KX T U c g S g S' := KX_ch h h0 (by rw [hF _ (Nat.le_refl _)]; exact h0)
theorem KX.at (h : KX T U n g S g' S') (ha : (g.1 a).1 ∉ T) : S'.1 a = S.1 a := h.2.1 a ha
theorem KX.ow (h : KX T U n g S g' S') (ha : (g.1 a).1 ∉ T) : g'.1 a = g.1 a := h.2.2.1 a fun z => ha (by rw [z]; exact h.1)
theorem KX.ad (h : KX T U n g S g' S') {t : Nat} (ht : t ∉ U) : g'.2 t = g.2 t := h.2.2.2.1 t ht
theorem KX.cs (h : KX T U n g S g' S') : S'.2.2.2 = S.2.2.2 := h.2.2.2.2.2.2.2
theorem KX.le (h : KX T U n g S g' S') : S.2.1 ≤ S'.2.1 := h.2.2.2.2.1
theorem FR_sm (hF : FR g S) (h : S.2.1 ≤ S'.2.1) : FR g S' := fun a ha => hF a (by omega)
/-! class checks -/
theorem grc_o {fs : List TV} (h : S.1 a = some (cO c fs)) : grc S (some a) c = true := by rw [grc_e h]; simp [gclsOf]
theorem isAL.cl (h : isAL S a xs) : grc S (some a) 8 = true := by obtain ⟨md, cap, h⟩ := h; rw [grc_e h]; rfl
theorem isLL.cl (h : isLL S a xs) : grc S (some a) 9 = true := by obtain ⟨md, ns, h, -⟩ := h; rw [grc_e h]; rfl
theorem isDQ.cl (h : isDQ S a xs) : grc S (some a) 14 = true := by obtain ⟨cap, -, h⟩ := h; rw [grc_e h]; rfl
theorem isBS_cl {w : Int64} (h : S.1 a = some (cBS w)) : grc S (some a) 10 = true := by rw [grc_e h]; rfl
theorem gcst_g (h : grc S (some a) c = true) : gcst S (some a) c = true := h
theorem gcst_n : gcst S none c = true := rfl
theorem okst_g (h : grc S (some a) c = true) (hc : c ≠ 99) : okst S 4 (some a) = true := by
  cases he : S.1 a with
  | none => simp [grc, gcell, he] at h
  | some e =>
    rw [grc_e he] at h
    have : gclsOf e = c := by simpa using h
    simp [okst, he, this, hc]
theorem isAL.fr (h : isAL S a xs) (e : S'.1 a = S.1 a) : isAL S' a xs := by obtain ⟨md, cap, h⟩ := h; exact ⟨md, cap, by rw [e]; exact h⟩
theorem isLL.fr (h : isLL S a xs) (e : S'.1 a = S.1 a) : isLL S' a xs := by obtain ⟨md, cap, h, k⟩ := h; exact ⟨md, cap, by rw [e]; exact h, k⟩
theorem isDQ.fr (h : isDQ S a xs) (e : S'.1 a = S.1 a) : isDQ S' a xs := by obtain ⟨md, hc, h⟩ := h; exact ⟨md, hc, by rw [e]; exact h⟩
/-! ArrayList -/
theorem galc_e {md : Int32} {cap : Nat} (h : S.1 a = some (cAL md cap xs)) : galc S (some a) = some (a, md, cap, xs) := by simp only [galc, gcell_e h]
theorem al_size (h : isAL S a xs) : h_J2_size S (some a) = some (nI xs.length, S) := by
  obtain ⟨md, cap, h⟩ := h; simp only [h_J2_size, galc_e h, Option.bind_some]
theorem al_isEmpty (h : isAL S a xs) : h_J2_isEmpty S (some a) = some (if xs.length = 0 then 1 else 0, S) := by
  obtain ⟨md, cap, h⟩ := h; simp only [h_J2_isEmpty, galc_e h, Option.bind_some]
theorem al_get (h : isAL S a xs) {i : Nat} (hi : i < 2 ^ 31) (hx : xs[i]? = some x) : h_J2_get S (some a) (nI i) = some (x, S) := by
  obtain ⟨md, cap, h⟩ := h
  simp only [h_J2_get, galc_e h, Option.bind_some, nI_lt0 hi, if_false, nI_clamp hi, hx]
theorem al_init {fs : List TV} (h : S.1 a = some (cO 8 fs)) (hf : fs = [vI 0, vR none, vI 0]) : ∃ S', h_J2_init S (some a) = some ((), S') ∧ isAL S' a [] ∧ Ch a 0 S S' := by
  subst hf
  exact ⟨_, by simp only [h_J2_init, gobj_e h, Option.bind_some, if_true], ⟨0, 0, sup_at _ _ _⟩, Ch_sup _⟩
theorem alcap_le {cap n c : Nat} (h : ¬ n < cap) (h1 : 10 ≤ 5 * c) (h2 : n + n / 2 + 1 ≤ 5 * c) : alcap cap n ≤ 5 * c := by
  unfold alcap
  rw [if_neg h]
  split
  · omega
  · omega
theorem al_add (h : isAL S a xs) (hx : okst S 4 x = true) (hl : xs.length < 1000) (h1 : 10 ≤ 5 * c) (h2 : xs.length + xs.length / 2 + 1 ≤ 5 * c) : ∃ S', h_J2_add S (some a) x = some (1, S') ∧ isAL S' a (xs ++ [x]) ∧ Ch a c S S' := by
  obtain ⟨md, cap, h⟩ := h
  refine ⟨_, by simp only [h_J2_add, galc_e h, Option.bind_some, hx, hl, and_self, if_true]; rfl, ?_, ?_⟩
  · refine ⟨md + 1, alcap cap xs.length, ?_⟩
    unfold algrow
    split
    · exact sup_at _ _ _
    · exact sup_at _ _ _
  · unfold algrow
    split
    · exact Ch_n (Ch_sup _) (by omega)
    · next hh => exact Ch_n (Ch_tr (Ch_sup _) (Ch_ssk (alcap_le hh h1 h2) (by omega))) (by omega)
theorem alK_e {md : Int32} {cap : Nat} (h : S.1 a = some (cAL md cap xs)) : alK S a = cap := by simp only [alK, h]
theorem alK_fr (e : S'.1 a = S.1 a) : alK S' a = alK S a := by simp only [alK, e]
/-- growth pays by room -/
theorem al_addK (h : isAL S a xs) (hx : okst S 4 x = true) (hl : xs.length < 1000) : ∃ S', h_J2_add S (some a) x = some (1, S') ∧ isAL S' a (xs ++ [x]) ∧ alK S a ≤ alK S' a ∧ alK S' a ≤ max (alK S a) (max 10 (xs.length + xs.length / 2 + 1)) ∧ Ch a (alK S' a - alK S a) S S' := by
  obtain ⟨md, cap, h⟩ := h
  have k0 := alK_e h
  refine ⟨algrow (sup S a (cAL (md + 1) (alcap cap xs.length) (xs ++ [x]))) cap xs.length, by simp only [h_J2_add, galc_e h, Option.bind_some, hx, hl, and_self, if_true], ?_⟩
  unfold algrow
  by_cases e : xs.length < cap
  · have ec : alcap cap xs.length = cap := by unfold alcap; rw [if_pos e]
    have k1 : alK (sup S a (cAL (md + 1) (alcap cap xs.length) (xs ++ [x]))) a = cap := by rw [ec]; exact alK_e (sup_at _ _ _)
    rw [if_pos e, k1, k0]
    exact ⟨⟨_, _, sup_at _ _ _⟩, Nat.le_refl _, by omega, Ch_n (Ch_sup _) (by omega)⟩
  · have k1 : alK (ssk (sup S a (cAL (md + 1) (alcap cap xs.length) (xs ++ [x]))) (alcap cap xs.length)) a = alcap cap xs.length := alK_e (sup_at _ _ _)
    have ec : alcap cap xs.length = if cap = 0 then 10 else cap + max 1 (cap / 2) := by unfold alcap; rw [if_neg e]
    rw [if_neg e, k1, k0]
    refine ⟨⟨_, _, sup_at _ _ _⟩, ?_, ?_, Ch_n (Ch_tr (Ch_sup _) (Ch_ssk (c := alcap cap xs.length - cap) ?_ ?_)) (by omega)⟩
    · rw [ec]; split <;> omega
    · rw [ec]; split <;> omega
    · rw [ec]; split <;> omega
    · rw [ec]; split <;> omega
theorem al_clear (h : isAL S a xs) : ∃ S', h_J2_clear S (some a) = some ((), S') ∧ isAL S' a [] ∧ Ch a 0 S S' := by
  obtain ⟨md, cap, h⟩ := h
  exact ⟨_, by simp only [h_J2_clear, galc_e h, Option.bind_some]; rfl, ⟨_, _, sup_at _ _ _⟩, Ch_sup _⟩
theorem al_remove (h : isAL S a xs) {i : Nat} (hi : i < 2 ^ 31) (hx : xs[i]? = some x) : ∃ S', h_J2_remove S (some a) (nI i) = some (x, S') ∧ isAL S' a (xs.eraseIdx i) ∧ Ch a 0 S S' := by
  obtain ⟨md, cap, h⟩ := h
  exact ⟨_, by simp only [h_J2_remove, galc_e h, Option.bind_some, nI_lt0 hi, if_false, nI_clamp hi, hx]; rfl, ⟨_, _, sup_at _ _ _⟩, Ch_sup _⟩
theorem al_removeO (h : isAL S a xs) (hc : grc S x 5 = true) (hx : x ∈ xs) : ∃ S', h_J2_remove_2 S (some a) x = some (1, S') ∧ isAL S' a (xs.erase x) ∧ Ch a 0 S S' := by
  obtain ⟨md, cap, h⟩ := h
  exact ⟨_, by simp only [h_J2_remove_2, galc_e h, Option.bind_some, hc, hx, if_true]; rfl, ⟨_, _, sup_at _ _ _⟩, Ch_sup _⟩
theorem al_insert (h : isAL S a xs) (hx : okst S 4 x = true) (hl : xs.length < 1000) (h1 : 10 ≤ 5 * c) (h2 : xs.length + xs.length / 2 + 1 ≤ 5 * c) {i : Nat} (hi : i ≤ xs.length) : ∃ S', h_J2_add_3 S (some a) (nI i) x = some ((), S') ∧ isAL S' a (xs.insertIdx i x) ∧ Ch a c S S' := by
  obtain ⟨md, cap, h⟩ := h
  have hi3 : i < 2 ^ 31 := by omega
  refine ⟨_, by simp only [h_J2_add_3, galc_e h, Option.bind_some, hx, nI_lt0 hi3, nI_clamp hi3, hi, hl, and_self, not_false_eq_true, if_true]; rfl, ?_, ?_⟩
  · refine ⟨md + 1, alcap cap xs.length, ?_⟩
    unfold algrow
    split
    · exact sup_at _ _ _
    · exact sup_at _ _ _
  · unfold algrow
    split
    · exact Ch_n (Ch_sup _) (by omega)
    · next hh => exact Ch_n (Ch_tr (Ch_sup _) (Ch_ssk (alcap_le hh h1 h2) (by omega))) (by omega)
theorem map_erI {α β : Type} (f : α → β) (l : List α) (i : Nat) : (l.eraseIdx i).map f = (l.map f).eraseIdx i := by
  refine List.ext_getElem? fun j => ?_
  simp only [List.getElem?_map, List.getElem?_eraseIdx]
  split <;> rfl
/-! LinkedList -/
theorem gllc_e {md : Int32} {ns : List (Nat × Option Nat)} (h : S.1 a = some (cLL md ns)) : gllc S (some a) = some (a, md, ns) := by simp only [gllc, gcell_e h]
theorem ll_size (h : isLL S a xs) : h_J4_size S (some a) = some (nI xs.length, S) := by
  obtain ⟨md, ns, h, rfl⟩ := h; simp only [h_J4_size, gllc_e h, Option.bind_some, List.length_map]
theorem ll_isEmpty (h : isLL S a xs) (hl : xs.length < 1000) : h_J0_isEmpty S (some a) = some (if xs.length = 0 then 1 else 0, S) := by
  obtain ⟨md, ns, h, rfl⟩ := h
  rw [List.length_map] at hl
  have : ns.length < 100000 := by omega
  simp only [h_J0_isEmpty, gllc_e h, Option.bind_some, List.length_map, this, if_true]
theorem ll_init {fs : List TV} (h : S.1 a = some (cO 9 fs)) (hf : fs = [vI 0, vI 0, vR none, vR none]) : ∃ S', h_J4_init S (some a) = some ((), S') ∧ isLL S' a [] ∧ Ch a 0 S S' := by
  subst hf
  exact ⟨_, by simp only [h_J4_init, gobj_e h, Option.bind_some, if_true], ⟨0, [], sup_at _ _ _, rfl⟩, Ch_sup _⟩
theorem ll_addLast (h : isLL S a xs) (x : Option Nat) : ∃ S', h_J4_addLast S (some a) x = some ((), S') ∧ isLL S' a (xs ++ [x]) ∧ Ch a 1 S S' := by
  obtain ⟨md, ns, h, rfl⟩ := h
  exact ⟨ssk (sup S a (cLL (md + 1) (ns ++ [(S.2.1, x)]))) 3, by simp only [h_J4_addLast, gllc_e h, Option.bind_some], ⟨md + 1, ns ++ [(S.2.1, x)], sup_at _ _ _, by simp⟩, Ch_tr (Ch_sup _) (Ch_ssk (by omega) (Nat.le_refl _))⟩
theorem ll_add (h : isLL S a xs) (x : Option Nat) : ∃ S', h_J4_add S (some a) x = some (1, S') ∧ isLL S' a (xs ++ [x]) ∧ Ch a 1 S S' := by
  obtain ⟨md, ns, h, rfl⟩ := h
  exact ⟨ssk (sup S a (cLL (md + 1) (ns ++ [(S.2.1, x)]))) 3, by simp only [h_J4_add, gllc_e h, Option.bind_some], ⟨md + 1, ns ++ [(S.2.1, x)], sup_at _ _ _, by simp⟩, Ch_tr (Ch_sup _) (Ch_ssk (by omega) (Nat.le_refl _))⟩
theorem ll_clear (h : isLL S a xs) (hl : xs.length < 1000) : ∃ S', h_J4_clear S (some a) = some ((), S') ∧ isLL S' a [] ∧ Ch a 0 S S' := by
  obtain ⟨md, ns, h, rfl⟩ := h
  rw [List.length_map] at hl
  have : ns.length < 10000 := by omega
  exact ⟨_, by simp only [h_J4_clear, gllc_e h, Option.bind_some, this, if_true]; rfl, ⟨_, [], sup_at _ _ _, rfl⟩, Ch_sup _⟩
theorem ll_getLast (h : isLL S a xs) (hx : xs.getLast? = some x) : h_J4_getLast S (some a) = some (x, S) := by
  obtain ⟨md, ns, h, rfl⟩ := h
  rw [List.getLast?_map] at hx
  obtain ⟨n, hn, rfl⟩ := Option.map_eq_some_iff.mp hx
  simp only [h_J4_getLast, gllc_e h, Option.bind_some, hn]
theorem ll_removeLast (h : isLL S a xs) (hx : xs.getLast? = some x) : ∃ S', h_J4_removeLast S (some a) = some (x, S') ∧ isLL S' a xs.dropLast ∧ Ch a 0 S S' := by
  obtain ⟨md, ns, h, rfl⟩ := h
  rw [List.getLast?_map] at hx
  obtain ⟨n, hn, rfl⟩ := Option.map_eq_some_iff.mp hx
  exact ⟨_, by simp only [h_J4_removeLast, gllc_e h, Option.bind_some, hn]; rfl, ⟨_, _, sup_at _ _ _, by rw [List.map_dropLast]⟩, Ch_sup _⟩
theorem ll_removeFirst (h : isLL S a (x :: xs)) : ∃ S', h_J4_removeFirst S (some a) = some (x, S') ∧ isLL S' a xs ∧ Ch a 0 S S' := by
  obtain ⟨md, ns, h, e⟩ := h
  cases ns with
  | nil => cases e
  | cons p ns =>
    simp only [List.map_cons, List.cons.injEq] at e
    obtain ⟨rfl, rfl⟩ := e
    exact ⟨_, by simp only [h_J4_removeFirst, gllc_e h, Option.bind_some, List.head?_cons]; rfl, ⟨_, ns, sup_at _ _ _, rfl⟩, Ch_sup _⟩
theorem ll_removeO (h : isLL S a xs) (hl : xs.length < 1000) (hc : grc S x 3 = true) {i : Nat} (hx : xs.findIdx (fun y => y == x) = i) (hi : i < xs.length) : ∃ S', h_J4_remove_2 S (some a) x = some (1, S') ∧ isLL S' a (xs.eraseIdx i) ∧ Ch a 0 S S' := by
  obtain ⟨md, ns, h, rfl⟩ := h
  rw [List.findIdx_map] at hx
  rw [List.length_map] at hl hi
  have hf : llfind x ns = i := hx
  have : ns.length < 10000 := by omega
  exact ⟨_, by simp only [h_J4_remove_2, gllc_e h, Option.bind_some, hc, this, and_self, if_true, hf, hi]; rfl, ⟨_, _, sup_at _ _ _, by rw [map_erI]⟩, Ch_sup _⟩
/-! their iterators -/
def IT (S : St) (it a : Nat) (xs : List (Option Nat)) (i : Nat) : Prop := ∃ md lr ns, S.1 it = some (cO 13 [vR lr, vR (lladr ns i), vI (nI i), vI md, vR (some a)]) ∧ S.1 a = some (cLL md ns) ∧ ns.map (·.2) = xs ∧ xs.length < 1000 ∧ it ≠ a ∧ i ≤ xs.length
/-- one that has just given an element -/
def ITr (S : St) (it a : Nat) (xs : List (Option Nat)) (i : Nat) : Prop := ∃ md ns, S.1 it = some (cO 13 [vR (lladr ns (i - 1)), vR (lladr ns i), vI (nI i), vI md, vR (some a)]) ∧ S.1 a = some (cLL md ns) ∧ ns.map (·.2) = xs ∧ xs.length < 1000 ∧ it ≠ a ∧ i ≤ xs.length
theorem ITr.it {i it : Nat} (h : ITr S it a xs i) : IT S it a xs i := by obtain ⟨md, ns, h, h2⟩ := h; exact ⟨md, _, ns, h, h2⟩
theorem ITr.fr {i it : Nat} (h : ITr S it a xs i) (e1 : S'.1 it = S.1 it) (e2 : S'.1 a = S.1 a) : ITr S' it a xs i := by
  obtain ⟨md, ns, h1, h2, h3⟩ := h
  exact ⟨md, ns, by rw [e1]; exact h1, by rw [e2]; exact h2, h3⟩
theorem IT.cl {i it : Nat} (h : IT S it a xs i) : grc S (some it) 13 = true := by obtain ⟨md, lr, ns, h, -⟩ := h; exact grc_o h
theorem IT.fr {i it : Nat} (h : IT S it a xs i) (e1 : S'.1 it = S.1 it) (e2 : S'.1 a = S.1 a) : IT S' it a xs i := by
  obtain ⟨md, lr, ns, h1, h2, h3⟩ := h
  exact ⟨md, lr, ns, by rw [e1]; exact h1, by rw [e2]; exact h2, h3⟩
theorem ll_it (h : isLL S a xs) (hl : xs.length < 1000) (ha : a < S.2.1) : ∃ S', h_J3_iterator S (some a) = some (some S.2.1, S') ∧ IT S' S.2.1 a xs 0 ∧ Ch S.2.1 1 S S' := by
  obtain ⟨md, ns, h, rfl⟩ := h
  rw [List.length_map] at hl
  have : ns.length < 100000 := by omega
  refine ⟨_, by simp only [h_J3_iterator, gllc_e h, Option.bind_some, this, if_true]; rfl, ⟨md, none, ns, spu_at _ _ _, ?_, rfl, by rw [List.length_map]; omega, by omega, Nat.zero_le _⟩, Ch_spu _ (by omega) (Nat.le_refl _)⟩
  have : a ≠ S.2.1 := by omega
  simp only [spu, if_neg this]
  exact h
theorem it_has {i it : Nat} (h : IT S it a xs i) : h_J29_hasNext S (some it) = some (b2i (decide (i < xs.length)), S) := by
  obtain ⟨md, lr, ns, h1, h2, rfl, h3, -, h4⟩ := h
  rw [List.length_map] at h3 h4
  simp only [h_J29_hasNext, gI_e h1, gR_e h1, List.getElem?_cons_zero, List.getElem?_cons_succ, Option.bind_some, asI, asR, gllc_e h2, List.length_map, nI_ltE (show i < 2 ^ 31 by omega) (show ns.length < 2 ^ 31 by omega)]
  by_cases e : i < ns.length <;> simp [e, b2i]
theorem it_next {i it : Nat} (h : IT S it a xs i) (hx : xs[i]? = some x) : ∃ S', h_J29_next S (some it) = some (x, S') ∧ ITr S' it a xs (i + 1) ∧ Ch it 0 S S' := by
  obtain ⟨md, lr, ns, h1, h2, rfl, h3, hne, h4⟩ := h
  rw [List.length_map] at h3
  rw [List.getElem?_map] at hx
  obtain ⟨p, hp, rfl⟩ := Option.map_eq_some_iff.mp hx
  have hil := (List.getElem?_eq_some_iff.mp hp).1
  have h5 : ns.length < 100000 := by omega
  have hi3 : i < 2 ^ 31 := by omega
  refine ⟨_, by simp only [h_J29_next, gobj_e h1, gI_e h1, gR_e h1, List.getElem?_cons_zero, List.getElem?_cons_succ, Option.bind_some, asI, asR, gllc_e h2, nI_lt0 hi3, nI_clamp hi3, h5, not_false_eq_true, and_self, if_true, hp]; rfl, ⟨md, ns, ?_, ?_, rfl, by rw [List.length_map]; omega, hne, by rw [List.length_map]; omega⟩, Ch_sup _⟩
  · rw [sup_at]
    simp only [List.set_cons_zero, List.set_cons_succ, nI_1, Nat.add_sub_cancel]
  · rw [sup_ne _ _ (Ne.symm hne)]; exact h2
theorem it_remove {i it : Nat} (h : ITr S it a xs (i + 1)) : ∃ S', h_J29_remove S (some it) = some ((), S') ∧ IT S' it a (xs.eraseIdx i) i ∧ (∀ b, b ≠ it → b ≠ a → S'.1 b = S.1 b) ∧ S'.2 = S.2 := by
  obtain ⟨md, ns, h1, h2, rfl, h3, hne, h4⟩ := h
  rw [List.length_map] at h3 h4
  rw [Nat.add_sub_cancel] at h1
  have h5 : ns.length < 100000 := by omega
  have hi3 : i + 1 < 2 ^ 31 := by omega
  have hpos : (0 : Int32) < nI (i + 1) := by rw [li_0, nI_ltE (by decide) hi3]; omega
  have hle : i + 1 ≤ ns.length := h4
  refine ⟨sup (sup S a (cLL (md + 1) (ns.eraseIdx i))) it (cO 13 [vR none, vR (lladr ns (i + 1)), vI (nI (i + 1) - 1), vI (md + 1), vR (some a)]), ?_, ⟨md + 1, none, ns.eraseIdx i, ?_, ?_, by rw [map_erI], ?_, hne, ?_⟩, fun b h6 h7 => by rw [sup_ne _ _ h6, sup_ne _ _ h7], rfl⟩
  · simp only [h_J29_remove, gobj_e h1, gI_e h1, gR_e h1, List.getElem?_cons_zero, List.getElem?_cons_succ, Option.bind_some, asI, asR, gllc_e h2, hpos, nI_clamp hi3, hle, h5, Nat.add_sub_cancel, and_self, if_true]
    rfl
  · rw [sup_at, lladr_erase, if_neg (by omega), nI_pred]
  · rw [sup_ne _ _ (Ne.symm hne), sup_at]
  · have := List.length_eraseIdx_le (ns.map (·.2)) i
    rw [List.length_map] at this
    omega
  · rw [List.length_eraseIdx_of_lt (by rw [List.length_map]; omega), List.length_map]; omega
/-! ArrayDeque -/
theorem gdqc_e {cap : Nat} (h : S.1 a = some (cDQ cap xs)) : gdqc S (some a) = some (a, cap, xs) := by simp only [gdqc, gcell_e h]
theorem dqG_e {cap : Nat} (h : S.1 a = some (cDQ cap xs)) : dqG S a = if cap = 17 then 23 else if cap = 36 then 15 else 0 := by simp only [dqG, h]
theorem dqG_fr (e : S'.1 a = S.1 a) : dqG S' a = dqG S a := by simp only [dqG, e]
theorem dqG_le (S : St) (a : Nat) : dqG S a ≤ 23 := by
  unfold dqG
  split
  · split
    · exact Nat.le_refl _
    · split <;> omega
  · omega
theorem dq_init {fs : List TV} (h : S.1 a = some (cO 14 fs)) (hf : fs = [vR none, vI 0, vI 0]) : ∃ S', h_J33_init S (some a) = some ((), S') ∧ isDQ S' a [] ∧ dqG S' a = 23 ∧ Ch a 4 S S' := by
  subst hf
  exact ⟨ssk (sup S a (cDQ 17 [])) 17, by simp only [h_J33_init, gobj_e h, Option.bind_some, if_true], ⟨17, Or.inl rfl, sup_at _ _ _⟩, dqG_e (sup_at _ _ _), Ch_n (Ch_tr (Ch_sup _) (Ch_ssk (c := 4) (by omega) (by omega))) (by omega)⟩
theorem dq_addLast (h : isDQ S a xs) (hx : okst S 4 x = true) (hs : x.isSome = true) (hl : xs.length < 70) : ∃ S', h_J33_addLast S (some a) x = some ((), S') ∧ isDQ S' a (xs ++ [x]) ∧ dqG S' a ≤ dqG S a ∧ Ch a (dqG S a - dqG S' a) S S' := by
  obtain ⟨cap, hc, h⟩ := h
  have g0 := dqG_e h
  by_cases e : xs.length + 1 < cap
  · have ec : dqcap cap xs.length = cap := by unfold dqcap; rw [if_pos e]
    have g1 : dqG (sup S a (cDQ (dqcap cap xs.length) (xs ++ [x]))) a = _ := dqG_e (sup_at _ _ _)
    rw [ec] at g1
    refine ⟨sup S a (cDQ (dqcap cap xs.length) (xs ++ [x])), ?_, ⟨cap, hc, by rw [ec]; exact sup_at _ _ _⟩, by rw [ec, g1, g0]; exact Nat.le_refl _, Ch_n (Ch_sup _) (by omega)⟩
    simp only [h_J33_addLast, gdqc_e h, Option.bind_some, hx, hs, show xs.length < 1000 by omega, and_self, if_true, e]
  · have e1 : dqcap cap xs.length = if cap < 64 then cap + (cap + 2) else cap + cap / 2 := by unfold dqcap; rw [if_neg e]
    have ec : dqcap cap xs.length = cap + (cap + 2) ∧ (cap = 17 ∨ cap = 36) := by
      rw [e1]
      rcases hc with rfl | rfl | rfl
      · exact ⟨rfl, Or.inl rfl⟩
      · exact ⟨rfl, Or.inr rfl⟩
      · omega
    have g1 : dqG (ssk (sup S a (cDQ (dqcap cap xs.length) (xs ++ [x]))) (dqcap cap xs.length)) a = _ := dqG_e (sup_at _ _ _)
    refine ⟨ssk (sup S a (cDQ (dqcap cap xs.length) (xs ++ [x]))) (dqcap cap xs.length), ?_, ⟨dqcap cap xs.length, ?_, sup_at _ _ _⟩, ?_, Ch_n (Ch_tr (Ch_sup _) (Ch_ssk (c := dqG S a - dqG (ssk (sup S a (cDQ (dqcap cap xs.length) (xs ++ [x]))) (dqcap cap xs.length)) a) ?_ ?_)) (by omega)⟩
    · simp only [h_J33_addLast, gdqc_e h, Option.bind_some, hx, hs, show xs.length < 1000 by omega, and_self, if_true, e, if_false]
    · rw [ec.1]; omega
    · rw [g1, g0, ec.1]
      rcases ec.2 with rfl | rfl <;> decide
    · rw [g1, g0, ec.1]
      rcases ec.2 with rfl | rfl <;> decide
    · rw [g1, g0, ec.1]
      rcases ec.2 with rfl | rfl <;> decide
theorem dq_add (h : isDQ S a xs) (hx : okst S 4 x = true) (hs : x.isSome = true) (hl : xs.length < 70) : ∃ S', h_J33_add S (some a) x = some (1, S') ∧ isDQ S' a (xs ++ [x]) ∧ dqG S' a ≤ dqG S a ∧ Ch a (dqG S a - dqG S' a) S S' := by
  obtain ⟨S', h1, h2⟩ := dq_addLast h hx hs hl
  exact ⟨S', by simp only [h_J33_add, h1, Option.bind_some], h2⟩
theorem dq_removeFirst (h : isDQ S a (x :: xs)) : ∃ S', h_J33_removeFirst S (some a) = some (x, S') ∧ isDQ S' a xs ∧ dqG S' a = dqG S a ∧ Ch a 0 S S' := by
  obtain ⟨cap, hc, h⟩ := h
  exact ⟨sup S a (cDQ cap xs), by simp only [h_J33_removeFirst, gdqc_e h, Option.bind_some, List.head?_cons, List.tail_cons], ⟨_, hc, sup_at _ _ _⟩, by rw [dqG_e h]; exact dqG_e (sup_at _ _ _), Ch_sup _⟩
theorem dq_contains (h : isDQ S a xs) (hc : grc S x 1 = true) : h_J33_contains S (some a) x = some (if x ∈ xs then 1 else 0, S) := by
  obtain ⟨cap, -, h⟩ := h
  simp only [h_J33_contains, gdqc_e h, Option.bind_some, hc, if_true]
theorem dq_isEmpty (h : isDQ S a xs) : h_J33_isEmpty S (some a) = some (if xs.length = 0 then 1 else 0, S) := by
  obtain ⟨cap, -, h⟩ := h
  simp only [h_J33_isEmpty, gdqc_e h, Option.bind_some]
/-! BitSet -/
theorem gbsc_e {w : Int64} (h : S.1 a = some (cBS w)) : gbsc S (some a) = some (a, w) := by simp only [gbsc, gcell_e h]
theorem nI_lt64 {i : Nat} (h : i < 64) : 0 ≤ nI i ∧ nI i < 64 := by
  rw [show (64 : Int32) = nI 64 by decide +kernel, nI_ltE (show i < 2 ^ 31 by omega) (by decide), li_0, nI_leE (by decide) (show i < 2 ^ 31 by omega)]
  omega
theorem bs_init {fs : List TV} (h : S.1 a = some (cO 10 fs)) (hf : fs = [vR none, vI 0, vI 0]) : ∃ S', h_J5_init S (some a) 60 = some ((), S') ∧ S'.1 a = some (cBS 0) ∧ Ch a 1 S S' := by
  subst hf
  exact ⟨ssk (sup S a (cBS 0)) 1, by simp only [h_J5_init, gobj_e h, Option.bind_some, and_self, if_true], sup_at _ _ _, Ch_tr (Ch_sup _) (Ch_ssk (by omega) (Nat.le_refl _))⟩
theorem bs_set {w : Int64} (h : S.1 a = some (cBS w)) {i : Nat} (hi : i < 64) : h_J5_set S (some a) (nI i) = some ((), sup S a (cBS (w ||| bbit (nI i)))) := by
  simp only [h_J5_set, gbsc_e h, Option.bind_some, nI_lt64 hi, and_self, if_true]
theorem bs_get {w : Int64} (h : S.1 a = some (cBS w)) {i : Nat} (hi : i < 64) : h_J5_get S (some a) (nI i) = some (b2i (tb w i), S) := by
  simp only [h_J5_get, gbsc_e h, Option.bind_some, nI_lt64 hi, and_self, if_true, tb]
  by_cases e : w &&& bbit (nI i) = 0 <;> simp [e, b2i]
theorem bs_clear {w : Int64} (h : S.1 a = some (cBS w)) : h_J5_clear S (some a) = some ((), sup S a (cBS 0)) := by
  simp only [h_J5_clear, gbsc_e h, Option.bind_some]
theorem bs_next {w : Int64} (h : S.1 a = some (cBS w)) {i : Nat} (hi : i < 64) : h_J5_nextSetBit S (some a) (nI i) = some (nsb w (64 - i) i, S) := by
  simp only [h_J5_nextSetBit, gbsc_e h, Option.bind_some, nI_lt64 hi, and_self, if_true, nI_clamp (show i < 2 ^ 31 by omega)]
/-! the iterator of an ArrayList -/
def IA (S : St) (it a : Nat) (xs : List (Option Nat)) (i : Nat) : Prop := ∃ md lr cap, S.1 it = some (cO 12 [vI (nI i), vI lr, vI md, vR (some a)]) ∧ S.1 a = some (cAL md cap xs) ∧ xs.length < 1000 ∧ it ≠ a ∧ i ≤ xs.length
def IAr (S : St) (it a : Nat) (xs : List (Option Nat)) (i : Nat) : Prop := ∃ md cap, S.1 it = some (cO 12 [vI (nI (i + 1)), vI (nI i), vI md, vR (some a)]) ∧ S.1 a = some (cAL md cap xs) ∧ xs.length < 1000 ∧ it ≠ a ∧ i < xs.length
theorem IAr.it {i it : Nat} (h : IAr S it a xs i) : IA S it a xs (i + 1) := by obtain ⟨md, cap, h1, h2, h3, h4, h5⟩ := h; exact ⟨md, _, cap, h1, h2, h3, h4, h5⟩
theorem IA.cl {i it : Nat} (h : IA S it a xs i) : grc S (some it) 12 = true := by obtain ⟨md, lr, ns, h, -⟩ := h; exact grc_o h
theorem IA.fr {i it : Nat} (h : IA S it a xs i) (e1 : S'.1 it = S.1 it) (e2 : S'.1 a = S.1 a) : IA S' it a xs i := by
  obtain ⟨md, lr, ns, h1, h2, h3⟩ := h
  exact ⟨md, lr, ns, by rw [e1]; exact h1, by rw [e2]; exact h2, h3⟩
theorem IAr.fr {i it : Nat} (h : IAr S it a xs i) (e1 : S'.1 it = S.1 it) (e2 : S'.1 a = S.1 a) : IAr S' it a xs i := by
  obtain ⟨md, lr, h1, h2, h3⟩ := h
  exact ⟨md, lr, by rw [e1]; exact h1, by rw [e2]; exact h2, h3⟩
theorem al_it (h : isAL S a xs) (hl : xs.length < 1000) (ha : a < S.2.1) : ∃ S', h_J2_iterator S (some a) = some (some S.2.1, S') ∧ IA S' S.2.1 a xs 0 ∧ Ch S.2.1 1 S S' := by
  obtain ⟨md, cap, h⟩ := h
  have hne : a ≠ S.2.1 := by omega
  refine ⟨spu S (cO 12 [vI 0, vI (-1), vI md, vR (some a)]) 4, by simp only [h_J2_iterator, galc_e h, Option.bind_some], ⟨md, -1, cap, spu_at _ _ _, ?_, hl, Ne.symm hne, Nat.zero_le _⟩, Ch_spu _ (by omega) (Nat.le_refl _)⟩
  simp only [spu, if_neg hne]
  exact h
theorem ia_has {i it : Nat} (h : IA S it a xs i) : h_J26_hasNext S (some it) = some (b2i (decide (i < xs.length)), S) := by
  obtain ⟨md, lr, cap, h1, h2, h3, -, h4⟩ := h
  simp only [h_J26_hasNext, gI_e h1, gR_e h1, List.getElem?_cons_zero, List.getElem?_cons_succ, Option.bind_some, asI, asR, galc_e h2, nI_eqE (show i < 2 ^ 31 by omega) (show xs.length < 2 ^ 31 by omega)]
  by_cases e : i = xs.length
  · simp [e, b2i]
  · have : i < xs.length := by omega
    simp [e, this, b2i]
theorem ia_next {i it : Nat} (h : IA S it a xs i) (hx : xs[i]? = some x) : ∃ S', h_J26_next S (some it) = some (x, S') ∧ IAr S' it a xs i ∧ Ch it 0 S S' := by
  obtain ⟨md, lr, cap, h1, h2, h3, hne, h4⟩ := h
  have hil := (List.getElem?_eq_some_iff.mp hx).1
  have hi3 : i < 2 ^ 31 := by omega
  refine ⟨sup S it (cO 12 (([vI (nI i), vI lr, vI md, vR (some a)].set 0 (vI (nI i + 1))).set 1 (vI (nI i)))), by simp only [h_J26_next, gobj_e h1, gI_e h1, gR_e h1, List.getElem?_cons_zero, List.getElem?_cons_succ, Option.bind_some, asI, asR, galc_e h2, nI_lt0 hi3, nI_clamp hi3, not_false_eq_true, and_self, if_true, hx], ⟨md, cap, ?_, ?_, h3, hne, hil⟩, Ch_sup _⟩
  · rw [sup_at]
    simp only [List.set_cons_zero, List.set_cons_succ, nI_1]
  · rw [sup_ne _ _ (Ne.symm hne)]; exact h2
theorem ia_remove {i it : Nat} (h : IAr S it a xs i) : ∃ S', h_J26_remove S (some it) = some ((), S') ∧ IA S' it a (xs.eraseIdx i) i ∧ (∀ b, b ≠ it → b ≠ a → S'.1 b = S.1 b) ∧ S'.2 = S.2 := by
  obtain ⟨md, cap, h1, h2, h3, hne, h4⟩ := h
  have hi3 : i < 2 ^ 31 := by omega
  refine ⟨sup (sup S a (cAL (md + 1) cap (xs.eraseIdx i))) it (cO 12 [vI (nI i), vI (-1), vI (md + 1), vR (some a)]), ?_, ⟨md + 1, -1, cap, sup_at _ _ _, ?_, ?_, hne, ?_⟩, fun b h6 h7 => by rw [sup_ne _ _ h6, sup_ne _ _ h7], rfl⟩
  · simp only [h_J26_remove, gobj_e h1, gI_e h1, gR_e h1, List.getElem?_cons_zero, List.getElem?_cons_succ, Option.bind_some, asI, asR, galc_e h2, nI_lt0 hi3, nI_clamp hi3, h4, not_false_eq_true, and_self, if_true]
    rfl
  · rw [sup_ne _ _ (Ne.symm hne), sup_at]
  · have := List.length_eraseIdx_le xs i
    omega
  · rw [List.length_eraseIdx_of_lt h4]; omega
end
