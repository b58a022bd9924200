/-! the reference's questions: what they answer, nothing changed -/
section
variable {M : Nat} {S : St} {u : MM} {f : Fl} {rk : Nat → Nat} {rs : List RtV} {en : En} {ac : List AcV}
theorem nI_le0 {a : Nat} (h : a < 2 ^ 31) : (nI a ≤ 0) = (a = 0) := by
  rw [li_0]; exact propext ((nI_leI h (by decide)).trans (by omega))
theorem nI_eq0 {a : Nat} (h : a < 2 ^ 31) : (nI a = 0) = (a = 0) := by
  rw [li_0]; exact propext (nI_eq h (by decide))
theorem nI_lt0 {a : Nat} (h : a < 2 ^ 31) : (nI a < 0) = False := eq_false (nI_pos h)
theorem nI_eqE {a b : Nat} (ha : a < 2 ^ 31) (hb : b < 2 ^ 31) : (nI a = nI b) = (a = b) := propext (nI_eq ha hb)
theorem nI_leE {a b : Nat} (ha : a < 2 ^ 31) (hb : b < 2 ^ 31) : (nI a ≤ nI b) = (a ≤ b) := propext (nI_leI ha hb)
theorem nI_ltE {a b : Nat} (ha : a < 2 ^ 31) (hb : b < 2 ^ 31) : (nI a < nI b) = (a < b) := propext (nI_ltI ha hb)
theorem nI_e1 {a : Nat} (h : a < 2 ^ 31) : (nI a = (-1 : Int32)) = False := eq_false (nI_neg1 h)
theorem prI_eq {o : Option Nat} {a : Nat} (ha : a < 2 ^ 31) (ho : ∀ p, o = some p → p < 2 ^ 31) : (prI o = nI a) = (o = some a) := by
  cases o with
  | none => exact propext ⟨fun e => absurd e (nI_neg1' ha), fun e => by cases e⟩
  | some p => rw [prI_s, nI_eqE (ho p rfl) ha]; simp
theorem prI_eqE {o p : Option Nat} (ho : ∀ a, o = some a → a < 2 ^ 31) (hp : ∀ a, p = some a → a < 2 ^ 31) : (prI o = prI p) = (o = p) := by
  cases p with
  | none =>
    cases o with
    | none => simp
    | some a => rw [prI_s, prI_n, nI_e1 (ho a rfl)]; simp
  | some a => exact prI_eq (hp a rfl) ho
theorem inI_cases {n : Nat} (hn : n ≤ 60) (x : Int32) : (∃ k, k < n ∧ x = nI k ∧ inI x 0 (nI n - 1) = true) ∨ (inI x 0 (nI n - 1) = false ∧ ¬ (¬ x < 0 ∧ x.toNatClampNeg < n)) := by
  by_cases h : x < 0
  · exact Or.inr ⟨by simp [inI, h], fun z => z.1 h⟩
  · obtain ⟨j, hj, rfl⟩ := nI_of h
    have hc := nI_clamp hj
    by_cases hjn : j < n
    · refine Or.inl ⟨j, hjn, rfl, ?_⟩
      rw [li_1, nI_subI (by omega)]
      have h2 : ¬ nI (n - 1) < nI j := nI_nlt (by omega) (by omega)
      simp [inI, h, h2]
    · refine Or.inr ⟨?_, fun z => hjn (by rw [hc] at z; exact z.2)⟩
      have h2 : nI n - 1 < nI j := by
        cases n with
        | zero =>
          have e : nI 0 - 1 = (-1 : Int32) := by decide
          rw [e, Int32.lt_iff_toInt_lt, nI_toInt hj]
          have : (-1 : Int32).toInt = -1 := by decide
          omega
        | succ n =>
          rw [li_1, nI_subI (by omega)]
          exact nI_lt (by omega) hj
      simp [inI, h2]
theorem ndA_nI {k : Nat} (hk : k < fMd f) (h6 : fMd f ≤ 60) : ndA f (nI k) = if fGo f k then none else some k := by
  unfold ndA
  rw [nI_clamp (by omega)]
  have h1 := nI_pos (n := k) (by omega)
  cases hg : fGo f k <;> simp [h1, hk, hg]
theorem ndA_no {x : Int32} (h : ¬ (¬ x < 0 ∧ x.toNatClampNeg < fMd f)) : ndA f x = none := by
  unfold ndA
  rw [if_neg]
  exact fun z => h ⟨z.1, z.2.1⟩
theorem q_in (S : St) (x a b : Int32) : n_X3_in S x a b = some (b2i (inI x a b), S) := by
  unfold n_X3_in inI
  by_cases h1 : x < a <;> by_cases h2 : b < x <;> simp [h1, h2, rt_b0, rt_b1, rt_b]
theorem q_isBelow_l {a : Nat} (h : RMf f u) (A : AC f rk) (h6 : fMd f ≤ 60) (ha : a < 60) : ∀ m (o : Option Nat) (acc : Bool), (∀ p, o = some p → p < fMd f ∧ rk p + 1 < m) → 0 < m → n_X3_isBelow_b10 m (mput M S u) (some M) (nI a) (b2i acc) (prI o) = some (b2i (acc || bel0 f o a), mput M S u) := by
  intro m
  induction m with
  | zero => intro o acc _ h; omega
  | succ m ih =>
    intro o acc hp _
    cases o with
    | none => simp only [n_X3_isBelow_b10, prI, if_true, rt_b, id, bel0, Bool.or_false]
    | some p =>
      obtain ⟨h1, h2⟩ := hp p rfl
      have hstep : ∀ acc', n_X3_isBelow_b31 (n_X3_isBelow_b10 m) (mput M S u) (some M) (nI a) (nI p) (b2i acc') = some (b2i (acc' || blw f p a), mput M S u) := by
        intro acc'
        simp only [n_X3_isBelow_b31, mR_5, ob_s, ma_2 (show p < 60 by omega), h.pa h1]
        rw [ih (fPa f p) acc' (fun q hq => ⟨((A p h1).2 q hq).1, by have := ((A p h1).2 q hq).2; omega⟩) (by omega), blw_eq A h1]
      simp only [n_X3_isBelow_b10, n_X3_isBelow_b26, prI_s, nI_e1 (show p < 2 ^ 31 by omega), if_false, b2i_0, nI_eqE (show p < 2 ^ 31 by omega) (show a < 2 ^ 31 by omega)]
      cases acc with
      | true =>
        rw [if_neg (by decide)]
        exact (hstep true).trans (by simp)
      | false =>
        rw [if_pos rfl]
        by_cases hpa : p = a
        · rw [if_pos hpa]
          exact (hstep true).trans (by simp [bel0, hpa])
        · rw [if_neg hpa]
          exact (hstep false).trans (by simp [bel0, beq_false_of_ne hpa])
theorem q_isBelow (h : RMf f u) (A : AC f rk) (h6 : fMd f ≤ 60) {n a : Nat} (hn : n < fMd f) (ha : a < 60) : n_X3_isBelow (mput M S u) (some M) (nI n) (nI a) = some (b2i (blw f n a), mput M S u) := by
  simp only [n_X3_isBelow, mR_5, ob_s, ma_2 (show n < 60 by omega), h.pa hn]
  have h1 := q_isBelow_l (M := M) (S := S) h A h6 ha FU (fPa f n) false (fun p hp => ⟨((A n hn).2 p hp).1, by have := (A p ((A n hn).2 p hp).1).1; simp only [FU]; omega⟩) (by decide)
  rw [blw_eq A hn]
  exact h1.trans (by simp)
/-! roots -/
def RS (f : Fl) (rs : List RtV) : Prop := rs.length ≤ 3 ∧ ∀ r ∈ rs, r.1 < fMd f
theorem RMr.at {i : Nat} {r : RtV} (h : RMr rs u) (hi : rs[i]? = some r) : u.2 9 i = nI r.1 := (h.2 i r hi).1
/-- the last place that satisfies -/
def lst {α : Type} (p : α → Bool) (l : List α) : Nat → Option Nat
  | 0 => none
  | k + 1 => match l[k]? with
    | none => lst p l k
    | some x => if p x then some k else lst p l k
theorem q_rootAt (h : RMr rs u) (hR : RS f rs) (h6 : fMd f ≤ 60) {n : Nat} (hn : n < 60) : n_X3_rootAt (mput M S u) (some M) (nI n) = some (prI (lst (fun r => r.1 == n) rs rs.length), mput M S u) := by
  unfold n_X3_rootAt
  refine lp_u0 (fun m k => n_X3_rootAt_b4 m (mput M S u) (some M) (nI n) (prI (lst (fun r => r.1 == n) rs k)) (nI k)) rs.length _ ?_ ?_ (m := FU) (by have := hR.1; simp only [FU]; omega)
  · intro m k hk
    have h3 := hR.1
    have hk2 : rs[k]? = some rs[k] := List.getElem?_eq_getElem hk
    have hr := hR.2 _ (List.mem_of_getElem? hk2)
    simp only [n_X3_rootAt_b4, n_X3_rootAt_b27, mI_12, ob_s, h.1, mR_13, ma_9 (show k < 4 by omega), h.at hk2, nI_leE (show rs.length < 2 ^ 31 by omega) (show k < 2 ^ 31 by omega), nI_eqE (show rs[k].1 < 2 ^ 31 by omega) (show n < 2 ^ 31 by omega), nI_1]
    rw [if_neg (by omega)]
    simp only [lst, hk2, beq_iff_eq]
    split <;> rfl
  · intro m
    simp only [n_X3_rootAt_b4, mI_12, ob_s, h.1, nI_leE (show rs.length < 2 ^ 31 by have := hR.1; omega) (show rs.length < 2 ^ 31 by have := hR.1; omega), Nat.le_refl, if_true, rt_i, id]
/-- the place of the root below which a node is -/
def ovr (f : Fl) (rs : List RtV) (n : Nat) : Option Nat := if fGo f n then none else lst (fun r => blw f n r.1) rs rs.length
theorem q_over (hf : RMf f u) (A : AC f rk) (h : RMr rs u) (hR : RS f rs) (h6 : fMd f ≤ 60) {n : Nat} (hn : n < fMd f) : n_X3_over (mput M S u) (some M) (nI n) = some (prI (ovr f rs n), mput M S u) := by
  unfold n_X3_over
  have h3 := hR.1
  have hz : rs.length < 2 ^ 31 := by omega
  cases hg : fGo f n with
  | true =>
    have e : n_X3_over_b4 FU (mput M S u) (some M) (nI n) (-1 : Int32) (0 : Int32) = some (-1, mput M S u) := by
      obtain ⟨m, hm⟩ : ∃ m, FU = m + 1 := ⟨99999, rfl⟩
      rw [hm]
      simp only [n_X3_over_b4, mI_12, ob_s, h.1, mR_3, ma_0 (show n < 60 by omega), hf.go hn, hg, Bool.not_true, b2i_f, if_true, rt_i, id]
      split <;> rfl
    rw [e]; simp [ovr, hg, prI]
  | false =>
    have e : ovr f rs n = lst (fun r => blw f n r.1) rs rs.length := by simp [ovr, hg]
    rw [e]
    refine lp_u0 (fun m k => n_X3_over_b4 m (mput M S u) (some M) (nI n) (prI (lst (fun r => blw f n r.1) rs k)) (nI k)) rs.length _ ?_ ?_ (m := FU) (by simp only [FU]; omega)
    · intro m k hk
      have hk2 : rs[k]? = some rs[k] := List.getElem?_eq_getElem hk
      have hr := hR.2 _ (List.mem_of_getElem? hk2)
      simp only [n_X3_over_b4, n_X3_over_b40, mI_12, ob_s, h.1, mR_3, mR_13, ma_0 (show n < 60 by omega), ma_9 (show k < 4 by omega), h.at hk2, nI_leE hz (show k < 2 ^ 31 by omega), hf.go hn, hg, Bool.not_false, b2i_t, nI_1, mg_c, gd_t]
      rw [if_neg (by omega), if_neg (by decide), q_isBelow hf A h6 hn (by omega)]
      simp only [lst, hk2, bn_s, b2i_0]
      rcases Bool.eq_false_or_eq_true (blw f n rs[k].1) with hb | hb <;> simp [hb, prI]
    · intro m
      simp only [n_X3_over_b4, mI_12, ob_s, h.1, nI_leE hz hz, Nat.le_refl, if_true, rt_i, id]
theorem q_holdsRoot (hf : RMf f u) (A : AC f rk) (h : RMr rs u) (hR : RS f rs) (h6 : fMd f ≤ 60) {n : Nat} (hn : n < fMd f) : n_X3_holdsRoot (mput M S u) (some M) (nI n) = some (b2i (holR f rs n), mput M S u) := by
  unfold n_X3_holdsRoot
  have h3 := hR.1
  have hz : rs.length < 2 ^ 31 := by omega
  have e : holR f rs n = (rs.take rs.length).any fun r => r.1 == n || blw f r.1 n := by rw [List.take_length]; rfl
  rw [e]
  refine lp_u0 (fun m k => n_X3_holdsRoot_b4 m (mput M S u) (some M) (nI n) (b2i ((rs.take k).any fun r => r.1 == n || blw f r.1 n)) (nI k)) rs.length _ ?_ ?_ (m := FU) (by simp only [FU]; omega)
  · intro m k hk
    have hk2 : rs[k]? = some rs[k] := List.getElem?_eq_getElem hk
    have hr := hR.2 _ (List.mem_of_getElem? hk2)
    have ht : rs.take (k + 1) = rs.take k ++ [rs[k]] := List.take_succ_eq_append_getElem hk
    simp only [n_X3_holdsRoot_b4, n_X3_holdsRoot_b45, n_X3_holdsRoot_b40, mI_12, ob_s, h.1, mR_13, ma_9 (show k < 4 by omega), h.at hk2, nI_leE hz (show k < 2 ^ 31 by omega), nI_eqE (show rs[k].1 < 2 ^ 31 by omega) (show n < 2 ^ 31 by omega), nI_1, mg_c, gd_t, ht, List.any_append, List.any_cons, List.any_nil, Bool.or_false]
    rw [if_neg (by omega), q_isBelow hf A h6 hr (by omega)]
    simp only [bn_s, b2i_0]
    cases (rs.take k).any fun r => r.1 == n || blw f r.1 n with
    | true => simp [b2i_t]
    | false =>
      by_cases hq : rs[k].1 = n
      · simp [hq, b2i_t]
      · rcases Bool.eq_false_or_eq_true (blw f rs[k].1 n) with hb | hb <;> simp [hq, hb, beq_false_of_ne hq, b2i_t, b2i_f]
  · intro m
    simp only [n_X3_holdsRoot_b4, mI_12, ob_s, h.1, nI_leE hz hz, Nat.le_refl, if_true, rt_b, id]
theorem q_isNode (hf : RMf f u) (h6 : fMd f ≤ 60) (x : Int32) : n_X3_isNode (mput M S u) (some M) x = some (b2i (ndA f x).isSome, mput M S u) := by
  simp only [n_X3_isNode, mI_2, ob_s, hf.1, q_in, bn_s]
  rcases inI_cases h6 x with ⟨k, hk, rfl, hi⟩ | ⟨hi, hno⟩
  · simp only [hi, b2i_t, mR_3, ob_s, ma_0 (show k < 60 by omega), hf.go hk, ndA_nI hk h6, b2i_0]
    cases fGo f k <;> simp [rt_b0, rt_b1, b2i_t, b2i_f]
  · simp only [hi, b2i_f, ndA_no hno, if_true, rt_b0, id, Option.isSome_none]
theorem ndA_some {x : Int32} {n : Nat} (h : ndA f x = some n) (h6 : fMd f ≤ 60) : n < fMd f ∧ x = nI n ∧ fGo f n = false := by
  unfold ndA at h
  split at h
  · next h1 =>
    cases h
    obtain ⟨j, hj, rfl⟩ := nI_of h1.1
    have hc := nI_clamp hj
    rw [hc] at h1 ⊢
    exact ⟨h1.2.1, rfl, h1.2.2⟩
  · cases h
theorem foA_some {x : Int32} {n : Nat} (h : foA f x = some n) (h6 : fMd f ≤ 60) : n < fMd f ∧ x = nI n ∧ fGo f n = false ∧ fFo f n = true := by
  obtain ⟨k, h1, h2⟩ := Option.bind_eq_some_iff.mp h
  split at h2
  · next h3 =>
    cases h2
    have h4 := ndA_some h1 h6
    exact ⟨h4.1, h4.2.1, h4.2.2, h3⟩
  · cases h2
theorem fiA_some {x : Int32} {n : Nat} (h : fiA f x = some n) (h6 : fMd f ≤ 60) : n < fMd f ∧ x = nI n ∧ fGo f n = false ∧ fFo f n = false := by
  obtain ⟨k, h1, h2⟩ := Option.bind_eq_some_iff.mp h
  split at h2
  · cases h2
  · next h3 =>
    cases h2
    have h4 := ndA_some h1 h6
    exact ⟨h4.1, h4.2.1, h4.2.2, by simpa using h3⟩
theorem q_isFolderAt (hf : RMf f u) (h6 : fMd f ≤ 60) (x : Int32) : n_X3_isFolderAt (mput M S u) (some M) x = some (b2i (foA f x).isSome, mput M S u) := by
  simp only [n_X3_isFolderAt, mg_c, gd_t, q_isNode hf h6, bn_s, b2i_0]
  cases hn : ndA f x with
  | none => simp [foA, hn, rt_b0]
  | some k =>
    obtain ⟨h1, rfl, -⟩ := ndA_some hn h6
    simp only [foA, hn, mR_4, ob_s, ma_1 (show k < 60 by omega), hf.fo h1, b2i_0]
    cases fFo f k <;> simp [rt_b0, rt_b1]
theorem q_isFileAt (hf : RMf f u) (h6 : fMd f ≤ 60) (x : Int32) : n_X3_isFileAt (mput M S u) (some M) x = some (b2i (fiA f x).isSome, mput M S u) := by
  simp only [n_X3_isFileAt, mg_c, gd_t, q_isNode hf h6, bn_s, b2i_0]
  cases hn : ndA f x with
  | none => simp [fiA, hn, rt_b0]
  | some k =>
    obtain ⟨h1, rfl, -⟩ := ndA_some hn h6
    simp only [fiA, hn, mR_4, ob_s, ma_1 (show k < 60 by omega), hf.fo h1, b2i_0]
    cases fFo f k <;> simp [rt_b0, rt_b1]
theorem q_isTaken (hf : RMf f u) (A : AC f rk) (h6 : fMd f ≤ 60) {p : Nat} (hp : p < fMd f) (nm : Int32) (but : Option Nat) (hb : ∀ b, but = some b → b < 60) : n_X3_isTaken (mput M S u) (some M) (nI p) nm (prI but) = some (b2i (tkn f p nm but), mput M S u) := by
  unfold n_X3_isTaken tkn
  have hz : fMd f < 2 ^ 31 := by omega
  refine lp_u0 (fun m k => n_X3_isTaken_b6 m (mput M S u) (some M) (nI p) nm (prI but) (b2i (exB (fun k => !(some k == but) && !fGo f k && fPa f k == some p && fNm f k == nm) k)) (nI k)) (fMd f) _ ?_ ?_ (m := FU) (by simp only [FU]; omega)
  · intro m k hk
    have hq : ∀ q, fPa f k = some q → q < 2 ^ 31 := fun q hq => by have := ((A k hk).2 q hq).1; omega
    have hbb : (nI k = prI but) = (some k = but) := by
      have := prI_eqE (o := some k) (p := but) (fun a e => by cases e; omega) (fun a e => by have := hb a e; omega)
      rw [prI_s] at this; exact this
    simp only [n_X3_isTaken_b6, n_X3_isTaken_b58, n_X3_isTaken_b62, n_X3_isTaken_b63, mI_2, ob_s, hf.1, nI_leE hz (show k < 2 ^ 31 by omega), mR_3, mR_5, mR_6, ma_0 (show k < 60 by omega), ma_2 (show k < 60 by omega), ma_3 (show k < 60 by omega), hf.go hk, hf.pa hk, hf.nm hk, nI_1, b2i_0, hbb, prI_eq (show p < 2 ^ 31 by omega) hq]
    rw [if_neg (by omega)]
    simp only [exB]
    cases exB (fun k => !(some k == but) && !fGo f k && fPa f k == some p && fNm f k == nm) k with
    | true => simp [b2i_t]
    | false =>
      by_cases h1 : some k = but
      · simp [h1, b2i_f]
      · cases h2 : fGo f k with
        | true => simp [h1, b2i_f]
        | false =>
          by_cases h3 : fPa f k = some p
          · by_cases h4 : fNm f k = nm
            · simp [h1, h3, h4, beq_false_of_ne h1, b2i_t, b2i_f]
            · simp [h1, h3, h4, beq_false_of_ne h1, beq_false_of_ne h4, b2i_t, b2i_f]
          · simp [h1, h3, beq_false_of_ne h1, beq_false_of_ne h3, b2i_f]
  · intro m
    simp only [n_X3_isTaken_b6, mI_2, ob_s, hf.1, nI_leE hz hz, Nat.le_refl, if_true, rt_b, id]
theorem mrd_eq (A : AC f rk) {n : Nat} (hn : n < fMd f) (x : Int32) : mrd f x n = ((((fPp f n >>> (x &&& 31)) &&& 1) == 1) && match fPa f n with
  | none => true
  | some p => mrd f x p) := by
  simp only [mrd, List.all_cons]
  rw [upc_eq A hn]
  cases fPa f n with
  | none => rfl
  | some p => rfl
def mrd0 (f : Fl) (x : Int32) (o : Option Nat) : Bool := match o with
  | none => true
  | some p => mrd f x p
theorem q_mayReadAt_l (h : RMf f u) (A : AC f rk) (h6 : fMd f ≤ 60) (x : Int32) : ∀ m (o : Option Nat) (acc : Bool), (∀ p, o = some p → p < fMd f ∧ rk p + 1 < m) → 0 < m → n_X3_mayReadAt_b5 m (mput M S u) (some M) x (b2i acc) (prI o) = some (b2i (acc && mrd0 f x o), mput M S u) := by
  intro m
  induction m with
  | zero => intro o acc _ h; omega
  | succ m ih =>
    intro o acc hp _
    cases o with
    | none => simp only [n_X3_mayReadAt_b5, prI, if_true, rt_b, id, mrd0, Bool.and_true]
    | some p =>
      obtain ⟨h1, h2⟩ := hp p rfl
      have hstep : ∀ acc', n_X3_mayReadAt_b35 (n_X3_mayReadAt_b5 m) (mput M S u) (some M) x (nI p) (b2i acc') = some (b2i (acc' && mrd0 f x (fPa f p)), mput M S u) := by
        intro acc'
        simp only [n_X3_mayReadAt_b35, mR_5, ob_s, ma_2 (show p < 60 by omega), h.pa h1]
        rw [ih (fPa f p) acc' (fun q hq => ⟨((A p h1).2 q hq).1, by have := ((A p h1).2 q hq).2; omega⟩) (by omega)]
      have hm : mrd0 f x (some p) = ((((fPp f p >>> (x &&& 31)) &&& 1) == 1) && mrd0 f x (fPa f p)) := by
        simp only [mrd0]
        rw [mrd_eq A h1]
      simp only [n_X3_mayReadAt_b5, n_X3_mayReadAt_b34, prI_s, nI_e1 (show p < 2 ^ 31 by omega), if_false, b2i_0, mR_11, ob_s, ma_8 (show p < 60 by omega), h.pp h1]
      rw [hm]
      cases acc with
      | false =>
        rw [if_pos rfl]
        exact (hstep false).trans (by simp)
      | true =>
        rw [if_neg (by decide)]
        split
        · next e => exact (hstep true).trans (by simp [e])
        · next e => exact (hstep false).trans (by simp [beq_false_of_ne e])
theorem q_mayReadAt (h : RMf f u) (A : AC f rk) (h6 : fMd f ≤ 60) {n : Nat} (hn : n < fMd f) (x : Int32) : n_X3_mayReadAt (mput M S u) (some M) x (nI n) = some (b2i (mrd f x n), mput M S u) := by
  unfold n_X3_mayReadAt
  exact (q_mayReadAt_l h A h6 x FU (some n) true (fun p hp => by cases hp; exact ⟨hn, by have := (A n hn).1; simp only [FU]; omega⟩) (by decide)).trans (by simp [mrd0])
/-- an entry's parent is a node -/
def ES (f : Fl) (en : En) : Prop := ∀ k e, en k = some e → k < fMd f ∧ e.1 < fMd f ∧ e.2.2.1 < 1000 ∧ e.2.2.2.length ≤ 20
def FS (f : Fl) : Prop := ∀ k, k < fMd f → fEd f k < 1000 ∧ (fMk f k).length ≤ 20
theorem q_isKnown (hf : RMf f u) (A : AC f rk) (h6 : fMd f ≤ 60) (he : RMe f en u) (hE : ES f en) (hF : FS f) {k : Nat} (hk : k < fMd f) : n_X3_isKnown (mput M S u) (some M) (nI k) = some (b2i (kno f en k), mput M S u) := by
  have hk6 : k < 60 := by omega
  have hq : ∀ q, fPa f k = some q → q < 2 ^ 31 := fun q hq => by have := ((A k hk).2 q hq).1; omega
  have h1 := he k hk6
  have hed := (hF k hk).1
  simp only [n_X3_isKnown, n_X3_isKnown_b63, mR_22, mR_23, mR_5, mR_24, mR_6, mR_4, mR_25, mR_7, ob_s, ma_18 hk6, ma_19 hk6, ma_2 hk6, ma_20 hk6, ma_3 hk6, ma_1 hk6, ma_21 hk6, ma_4 hk6, h1.1, hf.pa hk, hf.nm hk, hf.fo hk, hf.ed hk, b2i_0]
  cases hen : en k with
  | none => simp [kno, hen, rt_b0]
  | some e =>
    obtain ⟨e1, e2, e3, -⟩ := h1.2 e hen
    have hes := hE k e hen
    have hpp : (nI e.1 = prI (fPa f k)) = (some e.1 = fPa f k) := by
      have := prI_eqE (o := some e.1) (p := fPa f k) (fun a z => by cases z; omega) hq
      rw [prI_s] at this; exact this
    simp only [e1, e2, e3, hpp, nI_eqE (show e.2.2.1 < 2 ^ 31 by omega) (show fEd f k < 2 ^ 31 by omega), Option.isSome_some]
    rw [if_neg (by decide)]
    simp only [kno, hen]
    by_cases h2 : some e.1 = fPa f k
    · by_cases h3 : e.2.1 = fNm f k
      · cases h4 : fFo f k with
        | true => simp [h2, h3, rt_b0, rt_b1]
        | false =>
          by_cases h5 : e.2.2.1 = fEd f k
          · simp [h2, h3, h5, rt_b0, rt_b1]
          · simp [h2, h3, h5, beq_false_of_ne h5, rt_b0, rt_b1]
      · simp [h2, h3, beq_false_of_ne h3, rt_b0, rt_b1]
    · simp [h2, beq_false_of_ne h2, rt_b0, rt_b1]
end
