/-! segments, plain: living places -/
def LU (sg : List SgV) : Prop := (sg.map (·.1)).Nodup ∧ ∀ x ∈ sg, ∀ y ∈ sg, ∀ k, (k, false) ∈ x.2 → (k, false) ∈ y.2 → x.1 = y.1
section
variable {n m a b c x y t i : Nat} {sg : List SgV} {k p : Nat} {D : Nat → Bool}
theorem sgO_kil (sg : List SgV) (D : Nat → Bool) (k : Nat) : sgO (kilS sg D) k = if D k then none else sgO sg k := by
  unfold sgO kilS
  rw [List.find?_map]
  have e : ((fun x : SgV => x.2.any fun p => p.1 == k && !p.2) ∘ fun s : SgV => (s.1, s.2.map fun p => (p.1, p.2 || D p.1))) = fun x : SgV => !D k && x.2.any fun p => p.1 == k && !p.2 := by
    funext x
    simp only [Function.comp, List.any_map]
    rw [Bool.eq_iff_iff]
    simp only [List.any_eq_true, Function.comp, Bool.and_eq_true, beq_iff_eq, Bool.not_eq_true', Bool.or_eq_false_iff]
    constructor
    · rintro ⟨p, hp, rfl, h1, h2⟩; exact ⟨h2, p, hp, rfl, h1⟩
    · rintro ⟨h2, p, hp, rfl, h1⟩; exact ⟨p, hp, rfl, h1, h2⟩
  rw [e, find_and]
  cases D k with
  | true => simp
  | false =>
    simp only [Bool.not_false, if_true, Bool.false_eq_true, if_false, Option.map_map]
    rfl
theorem any_live {ps : List (Nat × Bool)} : (ps.any fun p => p.1 == k && !p.2) = true ↔ (k, false) ∈ ps := by
  simp only [List.any_eq_true, Bool.and_eq_true, beq_iff_eq, Bool.not_eq_true']
  constructor
  · rintro ⟨⟨p1, p2⟩, hp, h1, h2⟩
    simp only at h1 h2
    subst h1; subst h2; exact hp
  · intro h; exact ⟨_, h, rfl, rfl⟩
theorem sgO_in {d : Nat} (h : sgO sg k = some d) : ∃ x ∈ sg, x.1 = d ∧ (k, false) ∈ x.2 := by
  obtain ⟨x, hx, e⟩ := Option.map_eq_some_iff.mp h
  have h2 := List.find?_some hx
  exact ⟨x, List.mem_of_find?_eq_some hx, e, any_live.mp h2⟩
theorem sgO_at (hU : LU sg) {x : SgV} (hx : x ∈ sg) (hk : (k, false) ∈ x.2) : sgO sg k = some x.1 := by
  cases h : sgO sg k with
  | none =>
    unfold sgO at h
    have := List.find?_eq_none.mp (Option.map_eq_none_iff.mp h) x hx
    exact absurd (any_live.mpr hk) this
  | some d =>
    obtain ⟨y, hy, e, hk2⟩ := sgO_in h
    rw [← e, hU.2 x hx y hy k hk hk2]
theorem sgO_no (h : sgO sg k = none) {x : SgV} (hx : x ∈ sg) : (k, false) ∉ x.2 := fun hk => by
  unfold sgO at h
  exact (List.find?_eq_none.mp (Option.map_eq_none_iff.mp h) x hx) (any_live.mpr hk)
theorem kil_live {ps : List (Nat × Bool)} : (k, false) ∈ (ps.map fun p => (p.1, p.2 || D p.1)) ↔ (k, false) ∈ ps ∧ D k = false := by
  simp only [List.mem_map, Prod.mk.injEq, Bool.or_eq_false_iff]
  constructor
  · rintro ⟨⟨p1, p2⟩, hp, h1, h2, h3⟩
    simp only at h1 h2 h3
    subst h1; subst h2; exact ⟨hp, h3⟩
  · rintro ⟨h1, h2⟩; exact ⟨_, h1, rfl, rfl, h2⟩
theorem LU_kil (hU : LU sg) (D : Nat → Bool) : LU (kilS sg D) := by
  refine ⟨?_, fun x hx y hy k h1 h2 => ?_⟩
  · have : (kilS sg D).map (·.1) = sg.map (·.1) := by simp [kilS, Function.comp_def]
    rw [this]; exact hU.1
  · obtain ⟨x0, hx0, rfl⟩ := List.mem_map.mp hx
    obtain ⟨y0, hy0, rfl⟩ := List.mem_map.mp hy
    exact hU.2 x0 hx0 y0 hy0 k (kil_live.mp h1).1 (kil_live.mp h2).1
theorem lvS_kil (x : SgV) (D : Nat → Bool) : lvS (x.1, x.2.map fun p => (p.1, p.2 || D p.1)) = (lvS x).filter fun p => !D p.1 := by
  unfold lvS
  simp only [List.filter_map, List.filter_filter]
  have : ∀ l : List (Nat × Bool), (l.filter ((fun p : Nat × Bool => !p.2) ∘ fun p => (p.1, p.2 || D p.1))).map (fun p => (p.1, p.2 || D p.1)) = l.filter fun p => !D p.1 && !p.2 := by
    intro l
    induction l with
    | nil => rfl
    | cons p l ih =>
      simp only [List.filter_cons, Function.comp, Bool.not_or]
      cases h1 : p.2 <;> cases h2 : D p.1 <;> simp only [Bool.not_true, Bool.not_false, Bool.and_true, Bool.and_false, Bool.false_eq_true, if_false, if_true] <;> first | exact ih | (rw [List.map_cons, ih]; rw [h1, h2]; refine congrArg (· :: _) ?_; exact Prod.ext rfl (by rw [h1]; rfl))
  exact this x.2
end
