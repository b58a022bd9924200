/-! the keeper: notices, nodes that change, boxes -/
/-- exceptions by codes -/
def IOE : String := "java/lang/IndexOutOfBoundsException"
def IAE : String := "java/lang/IllegalArgumentException"
def ISE : String := "java/lang/IllegalStateException"
/-- all that the keeper owns -/
def TT : List Nat := [0, 1, 2, 3, 4, 5, 6, 7, 8, 9, 10, 11, 12, 13, 20, 21, 22, 23, 24, 25]
/-- .. but for its own address -/
def UU : List Nat := [2, 3, 4, 5, 6, 7, 8, 9, 10, 11, 12, 13, 20, 21, 22, 23, 24, 25]
/-- a call has the answer that is told -/
def KO (es : List String) (c : Nat) (g : GA) (S : St) (d : Option ((Int32 ⊕ String) × St)) (o : Ro) : Prop := ∃ r S' g', d = some (r, S') ∧ KX TT UU c g S g' S' ∧ RK g' o.2.2 S' ∧ ((o.1 = 0 ∧ r = Sum.inl o.2.1) ∨ ∃ j E, o.1 = nI (j + 1) ∧ es[j]? = some E ∧ r = Sum.inr E)
def KI (c : Nat) (g : GA) (S : St) (d : Option (Int32 × St)) (o : Ro) : Prop := ∃ S' g', d = some (o.2.1, S') ∧ KX TT UU c g S g' S' ∧ RK g' o.2.2 S'
section
variable {S S' S1 : St} {g g' : GA} {T U : List Nat} {n m a b c : Nat} {f f' : Fl} {rs : List RtV} {en : En} {o : Nat → Option Nat} {ac : List AcV} {sg : List SgV} {w : Int64} {nm : Nm} {s : Sg} {rk : Nat → Nat} {k p : Nat}
theorem KX_all (h : KX T U n g S g' S') (hn : n ≤ m) (hT : ∀ t ∈ T, t ∈ TT := by decide) (hU : ∀ t ∈ U, t ∈ UU := by decide) : KX TT UU m g S g' S' := KX_up h hT hU hn
theorem KX_ssk (hF : FR g S) (h0 : 0 ∈ T := by decide) : KX T U 2 g S g (ssk S 6) := KX_new hF (Ch_ssk (by omega) (by omega)) h0
/-- a throw -/
theorem KO_x {es : List String} {j : Nat} {E : String} (hE : es[j]? = some E) (h : RK g s S) (r : Int32) {x : Int32} (hx : x = nI (j + 1)) (hc : 2 ≤ c) : KO es c g S (some (Sum.inr E, ssk S 6)) (x, r, s) :=
  ⟨_, _, g, rfl, KX_all (T := [0]) (U := []) (KX_ssk h.2.2.2.2.2.2.2.2.2.2) hc, h.kx0 (KX_ssk h.2.2.2.2.2.2.2.2.2.2), Or.inr ⟨j, E, hx, hE, rfl⟩⟩
theorem KO_s {es : List String} {s' : Sg} {x : Int32} (hk : KX TT UU c g S g' S') (h : RK g' s' S') : KO es c g S (some (Sum.inl x, S')) (0, x, s') := ⟨_, _, g', rfl, hk, h, Or.inl ⟨rfl, rfl⟩⟩
/-- after some steps that change nothing -/
theorem KO_pre {es : List String} {d : Option ((Int32 ⊕ String) × St)} {ro : Ro} (hk : KX [0] [] n g S g S1) (h : KO es m g S1 d ro) (hc : n + m ≤ c) : KO es c g S d ro := by
  obtain ⟨r, S', g', h1, h2, h3⟩ := h
  exact ⟨r, S', g', h1, KX_n (KX_tr (KX_all hk (Nat.le_refl _)) h2) hc, h3⟩
theorem k_tell (h : RKr g rs S) (hF : FR g S) (hT : RT f rs) (hN : (rs.map (·.1)).Nodup) {o : Option Nat} (ho : ∀ a, o = some a → ∃ r ∈ rs, r.1 = a) (kd n : Nat) : ∃ S' g', n_X1_tell S (some (g.2 1 0)) (o.map (g.2 4)) (some (S.2.2.2 (kd + 1))) (some (g.2 2 n)) = some ((), S') ∧ KX [0, 4, 5] [] 2 g S g' S' ∧ g'.2 = g.2 ∧ FR g' S' ∧ RKr g' (telS rs o kd n) S' := by
  cases o with
  | none => exact ⟨S, g, by simp only [n_X1_tell, Option.map_none, if_true], KX_n (KX_rf (by decide)) (by decide), rfl, hF, h⟩
  | some a =>
    obtain ⟨r, hr, rfl⟩ := ho a rfl
    obtain ⟨S', g', h1, h2, h3, h4, h5, h6⟩ := k_rtell h hF hr (hT.2 r hr) kd n
    refine ⟨S', g', ?_, h2, h3, h4, ?_⟩
    · simp only [n_X1_tell, Option.map_some, reduceCtorEq, if_false, h.cl hr, gd_t, h1, bn_s]
    · have e1 : (telR kd n r).1 = r.1 := by unfold telR; split <;> rfl
      refine RKr_upd h hN hr (telR kd n) e1 (fun a h0 ha hb => h5 a h0 (fun e => ?_) (fun e => ?_)) (fun a ha => h2.2.2.1 a ha) (fun t ht => by rw [h3]) (fun i hi => by rw [h3]) h2.cs h6
      · rw [e] at ha; rcases ha with z | z
        · exact z (show (4 : Nat) ∈ [4, 5, 6, 7] by decide)
        · exact z rfl
      · rw [e] at ha; rcases ha with z | z
        · exact z (show (5 : Nat) ∈ [4, 5, 6, 7] by decide)
        · exact z rfl
theorem abv_in {rs : List RtV} {a : Nat} (h : abv f rs k = some a) : ∃ r ∈ rs, r.1 = a := by
  unfold abv at h
  split at h
  · cases h
  · obtain ⟨r, hr, e⟩ := Option.map_eq_some_iff.mp h
    exact ⟨r, List.mem_of_find?_eq_some hr, e⟩
/-- the cell of a node changes -/
theorem RKf_nd (h : RKf g f S) (hk : k < fMd f) (hch : Ch (g.2 2 k) c S S') (hc : S'.1 (g.2 2 k) = some (ndC g f' k)) (hmd : fMd f' = fMd f) (hmk : ∀ j, j < fMd f → fMk f' j = fMk f j) (hj : ∀ j, j < fMd f → j ≠ k → ndC g f' j = ndC g f j) : RKf g f' S' := by
  obtain ⟨h1, h2, h3⟩ := h
  obtain ⟨k1, k2, k3, k4⟩ := h3 k hk
  have ne : ∀ {x t i}, g.1 x = (t, i) → (t, i) ≠ (2, k) → x ≠ g.2 2 k := fun {x t i} hx hne e => by rw [e, k3] at hx; exact hne hx.symm
  simp only [RKf, hmd, bxr_c hch.2.2.2.2]
  refine ⟨h1.fr (hch.1 _ (ne h2 (by simp))), h2, fun j hj1 => ?_⟩
  obtain ⟨j1, j2, j3, j4⟩ := h3 j hj1
  rw [hmk j hj1]
  refine ⟨?_, j2.fr (hch.1 _ (ne j4 (by simp))), j3, j4⟩
  by_cases e : j = k
  · rw [e]; exact hc
  · rw [hch.1 _ (ne j3 (by simp [e])), hj j hj1 e]; exact j1
/-- the marks of a node change -/
theorem RKf_mk (h : RKf g f S) (hk : k < fMd f) (hch : Ch (g.2 3 k) c S S') {ms : List Int32} (hc : isAL S' (g.2 3 k) (ms.map (bxr S))) : RKf g (fwMk f (fu (fMk f) k ms)) S' := by
  obtain ⟨h1, h2, h3⟩ := h
  obtain ⟨k1, k2, k3, k4⟩ := h3 k hk
  have ne : ∀ {x t i}, g.1 x = (t, i) → (t, i) ≠ (3, k) → x ≠ g.2 3 k := fun {x t i} hx hne e => by rw [e, k4] at hx; exact hne hx.symm
  simp only [RKf, bxr_c hch.2.2.2.2]
  refine ⟨h1.fr (hch.1 _ (ne h2 (by simp))), h2, fun j hj1 => ?_⟩
  obtain ⟨j1, j2, j3, j4⟩ := h3 j hj1
  refine ⟨by rw [hch.1 _ (ne j3 (by simp))]; exact j1, ?_, j3, j4⟩
  show isAL S' (g.2 3 j) ((fu (fMk f) k ms j).map (bxr S))
  by_cases e : j = k
  · subst e; rw [fu_s]; exact hc
  · rw [fu_n _ _ e]
    exact j2.fr (hch.1 _ (ne j4 (by simp [e])))
/-! boxes -/
theorem bx_rng {x : Int32} (h1 : -128 ≤ x) (h2 : x ≤ 127) : ¬ (x + 128 < 0) ∧ (x + 128).toNatClampNeg < 256 ∧ nI (x + 128).toNatClampNeg - 128 = x := by
  have e1 := Int32.le_iff_toInt_le.mp h1
  have e2 := Int32.le_iff_toInt_le.mp h2
  have t1 : (-128 : Int32).toInt = -128 := by decide
  have t2 : (127 : Int32).toInt = 127 := by decide
  have t3 : (128 : Int32).toInt = 128 := by decide
  rw [t1] at e1
  rw [t2] at e2
  have ea : (x + 128).toInt = x.toInt + 128 := by
    rw [Int32.toInt_add, t3, Int.bmod_eq_of_le (by omega) (by omega)]
  have hn : ¬ (x + 128 < 0) := by
    rw [Int32.lt_iff_toInt_lt, ea]; simp only [Int32.toInt_zero]; omega
  obtain ⟨j, hj, ej⟩ := nI_of hn
  have hc : (x + 128).toNatClampNeg = j := by rw [ej, nI_clamp hj]
  refine ⟨hn, ?_, ?_⟩
  · rw [hc]
    have : (nI j).toInt = j := nI_toInt hj
    rw [← ej, ea] at this
    omega
  · rw [hc, ← ej]; exact Int32.add_sub_cancel x 128
theorem k_valueOf (S : St) {x : Int32} (h1 : -128 ≤ x) (h2 : x ≤ 127) : n_J23_valueOf S x = some (bxr S x, S) := by
  obtain ⟨r1, r2, -⟩ := bx_rng h1 h2
  unfold n_J23_valueOf
  rw [if_neg (Int32.not_lt.mpr h1), if_neg (Int32.not_lt.mpr h2)]
  have : gca S (x + 128) = some (bxr S x) := by
    unfold gca
    rw [if_neg (by rintro (z | z); exact r1 z; omega)]
    rfl
  rw [this, ob_s]
theorem bx_cell (h : RKc g S) {x : Int32} (h1 : -128 ≤ x) (h2 : x ≤ 127) : ∃ q, bxr S x = some q ∧ S.1 q = some (cBX x) ∧ (g.1 q).1 = 30 := by
  obtain ⟨r1, r2, r3⟩ := bx_rng h1 h2
  obtain ⟨c1, c2⟩ := h.1 _ r2
  exact ⟨_, rfl, by rw [c1, r3], c2⟩
theorem bx_cl (h : RKc g S) {x : Int32} (h1 : -128 ≤ x) (h2 : x ≤ 127) : grc S (bxr S x) 16 = true := by
  obtain ⟨q, e, hq, -⟩ := bx_cell h h1 h2
  rw [e, grc_e hq]; rfl
theorem k_intValue (h : RKc g S) {x : Int32} (h1 : -128 ≤ x) (h2 : x ≤ 127) : n_J23_intValue S (bxr S x) = some (x, S) := by
  obtain ⟨q, e, hq, -⟩ := bx_cell h h1 h2
  rw [e]
  simp only [n_J23_intValue, gbv, gcell_e hq, ob_s, rt_i, id]
/-- marks and words are small -/
def Sm (x : Int32) : Prop := -128 ≤ x ∧ x ≤ 127
theorem isMk_Sm {x : Int32} (h : isMk x = true) : Sm x := by
  simp only [isMk, inI, Bool.and_eq_true, Bool.not_eq_true', decide_eq_false_iff_not] at h
  have h1 := Int32.le_iff_toInt_le.mp (Int32.not_lt.mp h.1.1)
  have h2 := Int32.le_iff_toInt_le.mp (Int32.not_lt.mp h.1.2)
  refine ⟨Int32.le_iff_toInt_le.mpr ?_, Int32.le_iff_toInt_le.mpr ?_⟩
  · have : (-128 : Int32).toInt ≤ (-3 : Int32).toInt := by decide
    omega
  · have : (99 : Int32).toInt ≤ (127 : Int32).toInt := by decide
    omega
end
