/-! the keeper's questions about files -/
section
variable {S S' S1 : St} {g g' : GA} {T U : List Nat} {n m a b c : Nat} {f : Fl} {rs : List RtV} {en : En} {o : Nat → Option Nat} {ac : List AcV} {sg : List SgV} {w : Int64} {nm : Nm} {s : Sg} {rk : Nat → Nat} {k p : Nat}
theorem k_isIn (S : St) (x a b : Int32) : n_X1_isIn S x a b = some (b2i (inI x a b), S) := by
  unfold n_X1_isIn inI
  by_cases h1 : x < a <;> by_cases h2 : b < x <;> simp [h1, h2, rt_b0, rt_b1]
theorem k_isName (S : St) (x : Int32) : n_X1_isName S x = some (b2i (inI x 97 122), S) := by
  unfold n_X1_isName inI
  by_cases h1 : x < 97 <;> by_cases h2 : 122 < x <;> simp [h1, h2, rt_b0, rt_b1]
theorem k_isWord (S : St) (x : Int32) : n_X1_isWord S x = some (b2i (inI x 0 99), S) := by
  simp only [n_X1_isWord, k_isIn, bn_s, rt_b, id]
theorem k_need1 (S : St) : n_X1_need S 1 = some (Sum.inl (), S) := by unfold n_X1_need; rw [if_neg (by decide)]
theorem k_need0 (S : St) : n_X1_need S 0 = some (Sum.inr "java/lang/IndexOutOfBoundsException", ssk S 6) := by unfold n_X1_need; rw [if_pos rfl]
theorem k_check1 (S : St) : n_X1_check S 1 = some (Sum.inl (), S) := by unfold n_X1_check; rw [if_neg (by decide)]
theorem k_check0 (S : St) : n_X1_check S 0 = some (Sum.inr "java/lang/IllegalArgumentException", ssk S 6) := by unfold n_X1_check; rw [if_pos rfl]
theorem k_poss1 (S : St) : n_X1_possible S 1 = some (Sum.inl (), S) := by unfold n_X1_possible; rw [if_neg (by decide)]
theorem k_poss0 (S : St) : n_X1_possible S 0 = some (Sum.inr "java/lang/IllegalStateException", ssk S 6) := by unfold n_X1_possible; rw [if_pos rfl]
theorem k_isBelow_l (h : RKf g f S) (A : AC f rk) {a : Nat} (ha : a < fMd f) : ∀ m (o : Option Nat) (acc : Bool), (∀ p, o = some p → p < fMd f ∧ rk p + 1 < m) → 0 < m → n_X2_isBelow_b7 m S (some (g.2 2 a)) (b2i acc) (o.map (g.2 2)) = some (b2i (acc || bel0 f o a), S) := by
  intro m
  induction m with
  | zero => intro o acc _ h; omega
  | succ m ih =>
    intro o acc hp _
    cases o with
    | none => simp only [n_X2_isBelow_b7, Option.map_none, if_true, rt_b, id, bel0, Bool.or_false]
    | some p =>
      obtain ⟨h1, h2⟩ := hp p rfl
      have hstep : ∀ acc', n_X2_isBelow_b25 (n_X2_isBelow_b7 m) S (some (g.2 2 a)) (some (g.2 2 p)) (b2i acc') = some (b2i (acc' || blw f p a), S) := by
        intro acc'
        simp only [n_X2_isBelow_b25, nd_2 h h1, ob_s]
        rw [ih (fPa f p) acc' (fun q hq => ⟨((A p h1).2 q hq).1, by have := ((A p h1).2 q hq).2; omega⟩) (by omega), blw_eq A h1]
      simp only [n_X2_isBelow_b7, Option.map_some, reduceCtorEq, if_false, b2i_0, nd_some h h1 ha]
      cases acc with
      | true =>
        rw [if_neg (by decide)]
        exact (rt_b _ _ _).trans (by rw [Bool.true_or]; rfl)
      | false =>
        rw [if_pos rfl]
        by_cases hpa : p = a
        · rw [if_pos hpa]
          exact (hstep true).trans (by simp [bel0, hpa])
        · rw [if_neg hpa]
          exact (hstep false).trans (by simp [bel0, beq_false_of_ne hpa])
theorem k_isBelow (h : RKf g f S) (A : AC f rk) (hn : n < fMd f) (ha : a < fMd f) : n_X2_isBelow S (some (g.2 2 n)) (some (g.2 2 a)) = some (b2i (blw f n a), S) := by
  simp only [n_X2_isBelow, nd_2 h hn, ob_s]
  have h1 := k_isBelow_l h A ha FU (fPa f n) false (fun p hp => ⟨((A n hn).2 p hp).1, by have := (A p ((A n hn).2 p hp).1).1; simp only [FU]; omega⟩) (by decide)
  rw [blw_eq A hn]
  exact h1.trans (by simp)
theorem k_mayBeRead_l (h : RKf g f S) (A : AC f rk) (x : Int32) : ∀ m (o : Option Nat) (acc : Bool), (∀ p, o = some p → p < fMd f ∧ rk p + 1 < m) → 0 < m → n_X2_mayBeRead_b4 m S x (b2i acc) (o.map (g.2 2)) = some (b2i (acc && mrd0 f x o), S) := by
  intro m
  induction m with
  | zero => intro o acc _ h; omega
  | succ m ih =>
    intro o acc hp _
    cases o with
    | none => simp only [n_X2_mayBeRead_b4, Option.map_none, if_true, rt_b, id, mrd0, Bool.and_true]
    | some p =>
      obtain ⟨h1, h2⟩ := hp p rfl
      have hstep : ∀ acc', n_X2_mayBeRead_b29 (n_X2_mayBeRead_b4 m) S x (some (g.2 2 p)) (b2i acc') = some (b2i (acc' && mrd0 f x (fPa f p)), S) := by
        intro acc'
        simp only [n_X2_mayBeRead_b29, nd_2 h h1, ob_s]
        rw [ih (fPa f p) acc' (fun q hq => ⟨((A p h1).2 q hq).1, by have := ((A p h1).2 q hq).2; omega⟩) (by omega)]
      have hm : mrd0 f x (some p) = ((((fPp f p >>> (x &&& 31)) &&& 1) == 1) && mrd0 f x (fPa f p)) := by
        simp only [mrd0]
        rw [mrd_eq A h1]
      simp only [n_X2_mayBeRead_b4, n_X2_mayBeRead_b28, Option.map_some, reduceCtorEq, if_false, b2i_0, nd_7 h h1, ob_s]
      rw [hm]
      cases acc with
      | false =>
        rw [if_pos rfl]
        exact (hstep false).trans (by simp)
      | true =>
        rw [if_neg (by decide)]
        split
        · next e => exact (hstep true).trans (by simp [e])
        · next e => exact (hstep false).trans (by simp [beq_false_of_ne e])
theorem k_mayBeRead (h : RKf g f S) (A : AC f rk) (hn : n < fMd f) (x : Int32) : n_X2_mayBeRead S (some (g.2 2 n)) x = some (b2i (mrd f x n), S) := by
  unfold n_X2_mayBeRead
  exact (k_mayBeRead_l h A x FU (some n) true (fun p hp => by cases hp; exact ⟨hn, by have := (A n hn).1; simp only [FU]; omega⟩) (by decide)).trans (by simp [mrd0])
theorem k_nodeAt (hn : RKn g nm S) (h : RKf g f S) (h6 : fMd f ≤ 60) (x : Int32) : n_X1_nodeAt S (some (g.2 1 0)) x = some ((ndA f x).map (g.2 2), S) := by
  simp only [n_X1_nodeAt, kn_0 hn, ob_s, h.1.cl, gd_t, ndl_size h, bn_s, k_isIn, b2i_0]
  rcases inI_cases h6 x with ⟨k, hk, rfl, hi⟩ | ⟨hi, hno⟩
  · simp only [hi, Bool.true_eq_false, if_false, kn_0 hn, ob_s, h.1.cl, gd_t, ndl_get h h6 hk, bn_s, gcst_g (h.cl hk), nd_8 h hk, b2i_0, ndA_nI hk h6]
    rcases Bool.eq_false_or_eq_true (fGo f k) with b | b
    · simp [b]
    · simp [b, kn_0 hn, h.1.cl, gd_t, ndl_get h h6 hk, bn_s, gcst_g (h.cl hk)]
  · simp only [hi, if_true, ndA_no hno, Option.map_none]
theorem ndA_bd (h6 : fMd f ≤ 60) {x : Int32} (h : ndA f x = some n) : n < fMd f := (ndA_some h h6).1
/-- a folder that is there, or a throw -/
theorem k_folderAt (hn : RKn g nm S) (h : RKf g f S) (h6 : fMd f ≤ 60) (x : Int32) : n_X1_folderAt S (some (g.2 1 0)) x = match foA f x with
    | some n => some (Sum.inl (some (g.2 2 n)), S)
    | none => some (Sum.inr "java/lang/IndexOutOfBoundsException", ssk S 6) := by
  simp only [n_X1_folderAt, n_X1_folderAt_b21, n_X1_folderAt_b22, hn.cl, gd_t, k_nodeAt hn h h6, bn_s, foA]
  cases ha : ndA f x with
  | none => simp [k_need0, tbn_x]
  | some k =>
    have hk := ndA_bd h6 ha
    simp only [Option.map_some, reduceCtorEq, if_false, nd_1 h hk, ob_s, b2i_0, Option.bind_some, k_need0, k_need1, tbn_x, tbn_s]
    rcases Bool.eq_false_or_eq_true (fFo f k) with b | b <;> simp [b]
theorem k_fileAt (hn : RKn g nm S) (h : RKf g f S) (h6 : fMd f ≤ 60) (x : Int32) : n_X1_fileAt S (some (g.2 1 0)) x = match fiA f x with
    | some n => some (Sum.inl (some (g.2 2 n)), S)
    | none => some (Sum.inr "java/lang/IndexOutOfBoundsException", ssk S 6) := by
  simp only [n_X1_fileAt, n_X1_fileAt_b21, n_X1_fileAt_b22, hn.cl, gd_t, k_nodeAt hn h h6, bn_s, fiA]
  cases ha : ndA f x with
  | none => simp [k_need0, tbn_x]
  | some k =>
    have hk := ndA_bd h6 ha
    simp only [Option.map_some, reduceCtorEq, if_false, nd_1 h hk, ob_s, b2i_0, Option.bind_some, k_need0, k_need1, tbn_x, tbn_s]
    rcases Bool.eq_false_or_eq_true (fFo f k) with b | b <;> simp [b]
theorem k_isTaken {nmm : Nm} (hn : RKn g nmm S) (h : RKf g f S) (A : AC f rk) (h6 : fMd f ≤ 60) (hp : p < fMd f) (nm : Int32) (but : Option Nat) (hb : ∀ b, but = some b → b < fMd f) : n_X1_isTaken S (some (g.2 1 0)) (some (g.2 2 p)) nm (but.map (g.2 2)) = some (b2i (tkn f p nm but), S) := by
  unfold n_X1_isTaken tkn
  have hz : fMd f < 2 ^ 31 := by omega
  refine lp_u0 (fun m k => n_X1_isTaken_b6 m S (some (g.2 1 0)) (some (g.2 2 p)) nm (but.map (g.2 2)) (b2i (exB (fun k => !(some k == but) && !fGo f k && fPa f k == some p && fNm f k == nm) k)) (nI k)) (fMd f) _ ?_ ?_ (m := FU) (by simp only [FU]; omega)
  · intro m k hk
    have hq : ∀ q, fPa f k = some q → q < fMd f := fun q hq => ((A k hk).2 q hq).1
    have hbb : (some (g.2 2 k) = but.map (g.2 2)) = (some k = but) := by
      have := nd_opt h (o := but) hb hk
      exact propext ⟨fun e => (Eq.mp this e.symm).symm, fun e => (Eq.mpr this e.symm).symm⟩
    simp only [n_X1_isTaken_b6, n_X1_isTaken_b73, n_X1_isTaken_b77, n_X1_isTaken_b78, kn_0 hn, ob_s, h.1.cl, gd_t, ndl_size h, bn_s, nI_leE hz (show k < 2 ^ 31 by omega), ndl_get h h6 hk, gcst_g (h.cl hk), nd_8 h hk, nd_2 h hk, nd_3 h hk, nI_1, b2i_0, hbb, nd_opt h hq hp]
    rw [if_neg (by omega)]
    simp only [exB]
    cases exB (fun k => !(some k == but) && !fGo f k && fPa f k == some p && fNm f k == nm) k with
    | true => simp [b2i_t]
    | false =>
      by_cases h1 : some k = but
      · simp [h1, b2i_f]
      · cases h2 : fGo f k with
        | true => simp [h1, b2i_f]
        | false =>
          by_cases h3 : fPa f k = some p
          · by_cases h4 : fNm f k = nm
            · simp [h1, h3, h4, beq_false_of_ne h1, b2i_t, b2i_f]
            · simp [h1, h3, h4, beq_false_of_ne h1, beq_false_of_ne h4, b2i_t, b2i_f]
          · simp [h1, h3, beq_false_of_ne h1, beq_false_of_ne h3, b2i_f]
  · intro m
    simp only [n_X1_isTaken_b6, kn_0 hn, ob_s, h.1.cl, gd_t, ndl_size h, bn_s, nI_leE hz hz, Nat.le_refl, if_true, rt_b, id]
theorem k_checkPerson (S : St) (x : Int32) : n_X1_checkPerson S x = if inI x 0 3 = true then some (Sum.inl (), S) else some (Sum.inr "java/lang/IndexOutOfBoundsException", ssk S 6) := by
  simp only [n_X1_checkPerson, k_isIn, bn_s]
  rcases Bool.eq_false_or_eq_true (inI x 0 3) with b | b <;> simp [b, b2i, k_need0, k_need1, tbn_x, tbn_s]
theorem k_nodes (hn : RKn g nm S) (h : RKf g f S) (h6 : fMd f ≤ 60) : n_X1_nodes S (some (g.2 1 0)) = some (nI (cnB (fun k => !fGo f k) (fMd f)), S) := by
  unfold n_X1_nodes
  have hz : fMd f < 2 ^ 31 := by omega
  have key := lp_u0 (fun m k => n_X1_nodes_b4 m S (some (g.2 1 0)) (nI (cnB (fun k => !fGo f k) k)) (nI k)) (fMd f) (some (nI (cnB (fun k => !fGo f k) (fMd f)), S)) ?_ ?_ (m := FU) (by simp only [FU]; omega)
  · simp only [cnB, nI_0] at key
    exact key
  · intro m k hk
    simp only [n_X1_nodes_b4, n_X1_nodes_b42, kn_0 hn, ob_s, h.1.cl, gd_t, ndl_size h, bn_s, nI_leE hz (show k < 2 ^ 31 by omega), ndl_get h h6 hk, gcst_g (h.cl hk), nd_8 h hk, nI_1, b2i_0, cnB]
    rw [if_neg (by omega)]
    rcases Bool.eq_false_or_eq_true (fGo f k) with b | b <;> simp [b]
  · intro m
    simp only [n_X1_nodes_b4, kn_0 hn, ob_s, h.1.cl, gd_t, ndl_size h, bn_s, nI_leE hz hz, Nat.le_refl, if_true, rt_i, id]
end
