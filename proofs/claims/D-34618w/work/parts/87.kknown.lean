/-! the keeper's work: what is known to lie below -/
section
variable {S S' S1 : St} {g g' : GA} {T U : List Nat} {n m a b c x y t i : Nat} {f f' : Fl} {rs : List RtV} {en : En} {o : Nat → Option Nat} {ac : List AcV} {sg : List SgV} {w : Int64} {nm : Nm} {s : Sg} {rk : Nat → Nat} {k p : Nat} {e : EnV}
/-- so many parents on -/
def kit (rs : List RtV) (en : En) : Nat → Option Nat → Option Nat
  | 0, o => o
  | i + 1, o => kit rs en i (o.bind (kst rs en))
theorem kit_add (i j : Nat) : ∀ o, kit rs en (i + j) o = kit rs en i (kit rs en j o) := by
  induction j with
  | zero => intro o; rfl
  | succ j ih => intro o; show kit rs en (i + j) (o.bind (kst rs en)) = kit rs en i (kit rs en j (o.bind (kst rs en))); exact ih _
theorem kit_none (i : Nat) : kit rs en i none = none := by
  induction i with
  | zero => rfl
  | succ i ih => exact ih
theorem kbl_iff {a : Nat} : ∀ c o, kbl rs en a c o = true ↔ ∃ i, i < c ∧ kit rs en i o = some a := by
  intro c
  induction c with
  | zero => intro o; simp [kbl]
  | succ c ih =>
    intro o
    cases o with
    | none =>
      simp only [kbl, Bool.false_eq_true, false_iff, not_exists, not_and]
      intro i _; rw [kit_none]; simp
    | some u =>
      simp only [kbl, Bool.or_eq_true, beq_iff_eq, ih]
      constructor
      · rintro (rfl | ⟨i, h1, h2⟩)
        · exact ⟨0, by omega, rfl⟩
        · exact ⟨i + 1, by omega, h2⟩
      · rintro ⟨i, h1, h2⟩
        cases i with
        | zero => left; simpa [kit] using h2
        | succ i => right; exact ⟨i, by omega, h2⟩
theorem kst_bd (hE : ES f en) {u v : Nat} (h : kst rs en u = some v) : v < fMd f := by
  unfold kst at h
  split at h
  · cases h
  · obtain ⟨e, he, rfl⟩ := Option.map_eq_some_iff.mp h
    exact (hE u e he).2.1
theorem kit_bd (hE : ES f en) : ∀ (i : Nat) (o : Option Nat) (v : Nat), (∀ u, o = some u → u < fMd f) → kit rs en i o = some v → v < fMd f := by
  intro i
  induction i with
  | zero => intro o v ho h; exact ho v h
  | succ i ih =>
    intro o v ho h
    refine ih _ v (fun u hu => ?_) h
    obtain ⟨q, hq, hs⟩ := Option.bind_eq_some_iff.mp hu
    exact kst_bd hE hs
/-- the first that is met is met soon -/
theorem kit_soon (hE : ES f en) (h6 : fMd f ≤ 60) {o : Option Nat} (ho : ∀ u, o = some u → u < fMd f) {a : Nat} : ∀ i, kit rs en i o = some a → ∃ j, j < 60 ∧ kit rs en j o = some a := by
  intro i
  induction i using Nat.strongRecOn with
  | _ i ih =>
    intro hi
    by_cases hmin : ∃ j, j < i ∧ kit rs en j o = some a
    · obtain ⟨j, h1, h2⟩ := hmin
      exact ih j h1 h2
    · have hdist : ∀ j k, j < k → k ≤ i → kit rs en j o ≠ kit rs en k o := by
        intro j k hjk hki heq
        refine hmin ⟨(i - k) + j, by omega, ?_⟩
        rw [kit_add, heq, ← kit_add, show i - k + k = i by omega]
        exact hi
      have hsome : ∀ j, j ≤ i → ∃ v, kit rs en j o = some v := by
        intro j hj
        cases hv : kit rs en j o with
        | some v => exact ⟨v, rfl⟩
        | none =>
          have := kit_add (rs := rs) (en := en) (i - j) j o
          rw [show i - j + j = i by omega, hv, kit_none, hi] at this
          cases this
      have hnd : ((List.range (i + 1)).map fun j => (kit rs en j o).getD 0).Nodup := by
        rw [List.nodup_iff_pairwise_ne, List.pairwise_map]
        refine List.Pairwise.imp_of_mem ?_ (List.pairwise_lt_range (n := i + 1))
        intro j k hj hk hjk
        have hj' := List.mem_range.mp hj
        have hk' := List.mem_range.mp hk
        obtain ⟨u, hu⟩ := hsome j (by omega)
        obtain ⟨v, hv⟩ := hsome k (by omega)
        have := hdist j k hjk (by omega)
        rw [hu, hv] at this
        rw [hu, hv]
        simpa using this
      have hb := nd_len (fMd f) _ hnd (fun v hv => by
        obtain ⟨j, hj, rfl⟩ := List.mem_map.mp hv
        have hj' := List.mem_range.mp hj
        obtain ⟨u, hu⟩ := hsome j (by omega)
        rw [hu]
        exact kit_bd hE j o u ho hu)
      rw [List.length_map, List.length_range] at hb
      exact ⟨i, by omega, hi⟩
theorem kbl_62 (hE : ES f en) (h6 : fMd f ≤ 60) {o : Option Nat} (ho : ∀ u, o = some u → u < fMd f) (a : Nat) : kbl rs en a 62 o = kbl rs en a 60 o := by
  rw [Bool.eq_iff_iff, kbl_iff, kbl_iff]
  constructor
  · rintro ⟨i, -, h⟩; exact kit_soon hE h6 ho i h
  · rintro ⟨i, h1, h2⟩; exact ⟨i, by omega, h2⟩
end
