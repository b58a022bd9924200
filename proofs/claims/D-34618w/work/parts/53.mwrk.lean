/-! the reference's work: what comes first, what is known, words, places -/
theorem lp_db {β : Type} (L : Nat → Nat → β) (r : β) (n : Nat) (hs : ∀ m k, k < n → L (m + 1) (k + 1) = L m k) (he : ∀ m, L (m + 1) 0 = r) : ∀ m k, k ≤ n → k < m → L m k = r := by
  intro m
  induction m with
  | zero => intro k _ h; omega
  | succ m ih =>
    intro k hn hk
    cases k with
    | zero => exact he m
    | succ k => rw [hs m k (by omega)]; exact ih k (by omega) (by omega)
/-- the first place from i on that satisfies -/
def fst1 {α : Type} (p : α → Bool) : List α → Nat → Option Nat
  | [], _ => none
  | x :: t, i => if p x then some i else fst1 p t (i + 1)
def cutL : List Int32 → Nat
  | [] => 0
  | m :: l => if m = -2 ∧ opn l = 0 then 0 else cutL l + 1
section
variable {M : Nat} {S : St} {u v w : MM} {f f' : Fl} {rs rs' : List RtV} {en : En} {ac : List AcV} {s : Sg} {rk rk' : Nat → Nat}
theorem fst1_find {α : Type} {p : α → Bool} : ∀ {l : List α} {i : Nat}, (∀ j, fst1 p l i = some j → i ≤ j ∧ j < i + l.length ∧ (∃ x, l[j - i]? = some x ∧ l.find? p = some x) ∧ l.findIdx p = j - i) ∧ (fst1 p l i = none → l.find? p = none ∧ l.findIdx p = l.length) := by
  intro l
  induction l with
  | nil => intro i; exact ⟨fun j h => (nomatch h), fun _ => ⟨rfl, rfl⟩⟩
  | cons x t ih =>
    intro i
    simp only [fst1]
    by_cases hp : p x = true
    · rw [if_pos hp]
      refine ⟨fun j h => ?_, fun h => by cases h⟩
      cases h
      refine ⟨Nat.le_refl _, by simp, ⟨x, by simp, by simp [hp]⟩, by simp [List.findIdx_cons, hp]⟩
    · rw [if_neg hp]
      have hp' : p x = false := by simpa using hp
      obtain ⟨h1, h2⟩ := ih (i := i + 1)
      refine ⟨fun j h => ?_, fun h => ?_⟩
      · obtain ⟨a1, a2, ⟨y, a3, a4⟩, a5⟩ := h1 j h
        refine ⟨by omega, by simp; omega, ⟨y, ?_, by simp [hp', a4]⟩, by rw [List.findIdx_cons, hp']; simp only [cond_false]; omega⟩
        rw [show j - i = (j - (i + 1)) + 1 by omega]; simpa using a3
      · obtain ⟨a1, a2⟩ := h2 h
        exact ⟨by simp [hp', a1], by rw [List.findIdx_cons, hp']; simp only [cond_false, List.length_cons]; omega⟩
theorem fst1_drop {α : Type} {p : α → Bool} {l : List α} {k : Nat} (hk : k < l.length) : fst1 p (l.drop k) k = if p l[k] then some k else fst1 p (l.drop (k + 1)) (k + 1) := by
  rw [List.drop_eq_getElem_cons hk]; rfl
theorem i_addm1 (x : Int32) : x + (-1) = x - 1 := (i_sub1 x).symm
theorem e_m1 : (nI 0 - 1 < 0) = True := by simp; decide
theorem q_firstNoticed (h : RMr rs u) (hT : RT f rs) : n_X3_firstNoticed (mput M S u) (some M) = some (prI (fst1 (fun r : RtV => r.2.2.1 || !r.2.1.isEmpty) rs 0), mput M S u) := by
  have h3 := hT.1
  simp only [n_X3_firstNoticed, mI_12, ob_s, h.1]
  have key := lp_db (fun m k => n_X3_firstNoticed_b9 m (mput M S u) (some M) (prI (fst1 (fun r : RtV => r.2.2.1 || !r.2.1.isEmpty) (rs.drop k) k)) (nI k - 1)) (some (prI (fst1 (fun r : RtV => r.2.2.1 || !r.2.1.isEmpty) rs 0), mput M S u)) rs.length ?_ ?_ FU rs.length (Nat.le_refl _) (by simp only [FU]; omega)
  · simpa [fst1, prI_n] using key
  · intro m k hkl
    obtain ⟨-, r2, -, r4, -⟩ := h.2 k _ (List.getElem?_eq_getElem hkl)
    have h8 := (hT.2 _ (List.getElem_mem hkl)).2.1
    rw [fst1_drop hkl]
    simp only [n_X3_firstNoticed_b9, n_X3_firstNoticed_b31, n_X3_firstNoticed_b36, nI_pred, nI_lt0 (show k < 2 ^ 31 by omega), if_false, mR_17, ob_s, ma_13 (show k < 4 by omega), r4, b2i_0, mR_14, ma_10 (show k < 4 by omega), r2, nI_le0 (show rs[k].2.1.length < 2 ^ 31 by omega), i_addm1]
    rcases Bool.eq_false_or_eq_true rs[k].2.2.1 with b1 | b1
    · simp [b1, prI]
    · cases hq : rs[k].2.1 with
      | nil => simp [b1]
      | cons a l => simp [b1, prI]
  · intro m
    simp only [n_X3_firstNoticed_b9, e_m1, if_true, rt_i, id, List.drop_zero]
theorem q_firstCrawl (h : RMr rs u) (hT : RT f rs) : n_X3_firstCrawl (mput M S u) (some M) = some (prI (fst1 (fun r : RtV => r.2.2.2.1.isSome) rs 0), mput M S u) := by
  have h3 := hT.1
  simp only [n_X3_firstCrawl, mI_12, ob_s, h.1]
  have key := lp_db (fun m k => n_X3_firstCrawl_b9 m (mput M S u) (some M) (prI (fst1 (fun r : RtV => r.2.2.2.1.isSome) (rs.drop k) k)) (nI k - 1)) (some (prI (fst1 (fun r : RtV => r.2.2.2.1.isSome) rs 0), mput M S u)) rs.length ?_ ?_ FU rs.length (Nat.le_refl _) (by simp only [FU]; omega)
  · simpa [fst1, prI_n] using key
  · intro m k hkl
    obtain ⟨-, -, -, -, r5, -⟩ := h.2 k _ (List.getElem?_eq_getElem hkl)
    rw [fst1_drop hkl]
    simp only [n_X3_firstCrawl_b9, n_X3_firstCrawl_b27, nI_pred, nI_lt0 (show k < 2 ^ 31 by omega), if_false, mR_18, ob_s, ma_14 (show k < 4 by omega), r5, b2i_0, i_addm1]
    rcases Bool.eq_false_or_eq_true rs[k].2.2.2.1.isSome with b1 | b1 <;> simp [b1, prI]
  · intro m
    simp only [n_X3_firstCrawl_b9, e_m1, if_true, rt_i, id, List.drop_zero]
theorem q_firstAct (h : RMa ac u) (hl : ac.length ≤ 60) : n_X3_firstAct (mput M S u) (some M) = some (prI (fst1 (fun a : AcV => !a.2.2) ac 0), mput M S u) := by
  simp only [n_X3_firstAct, mI_30, ob_s, h.1]
  have key := lp_db (fun m k => n_X3_firstAct_b9 m (mput M S u) (some M) (prI (fst1 (fun a : AcV => !a.2.2) (ac.drop k) k)) (nI k - 1)) (some (prI (fst1 (fun a : AcV => !a.2.2) ac 0), mput M S u)) ac.length ?_ ?_ FU ac.length (Nat.le_refl _) (by simp only [FU]; omega)
  · simpa [fst1, prI_n] using key
  · intro m k hkl
    obtain ⟨-, -, r5⟩ := h.2 k _ (List.getElem?_eq_getElem hkl)
    rw [fst1_drop hkl]
    simp only [n_X3_firstAct_b9, n_X3_firstAct_b27, nI_pred, nI_lt0 (show k < 2 ^ 31 by omega), if_false, mR_33, ob_s, ma_26 (show k < 60 by omega), r5, b2i_0, i_addm1]
    rcases Bool.eq_false_or_eq_true ac[k].2.2 with b1 | b1 <;> simp [b1, prI]
  · intro m
    simp only [n_X3_firstAct_b9, e_m1, if_true, rt_i, id, List.drop_zero]
theorem fst1_none {α : Type} {p : α → Bool} {l : List α} : (fst1 p l 0 = none) = (l.find? p = none) := by
  cases h : fst1 p l 0 with
  | none => simp [(fst1_find.2 h).1]
  | some j =>
    obtain ⟨-, -, ⟨x, -, hx⟩, -⟩ := fst1_find.1 j h
    simp [hx]
theorem fst1_bd {α : Type} {p : α → Bool} {l : List α} (hl : l.length < 2 ^ 31) : ∀ j, fst1 p l 0 = some j → j < 2 ^ 31 := fun j h => by
  have := (fst1_find.1 j h).2.1; omega
theorem q_isQuiet (h : RA s u) (h6 : fMd (zF s) ≤ 60) (hT : RT (zF s) (zR s)) (hB : AB (zF s) (zA s)) : ∃ v b, n_X3_isQuiet (mput M S u) (some M) = some (b, mput M S v) ∧ RO (opQuiet s) b v := by
  have hag : Ag [0] [] u (ui u 0 0) := Ag_ui u 0 (by decide)
  have hr0 := h.1.2.1.ag hag
  have ha0 := h.1.2.2.2.1.ag hag
  have hl := hB.len h6
  have h3 := hT.1
  refine ⟨ui u 0 0, _, ?_, RO_same h _⟩
  simp only [n_X3_isQuiet, mw_0, ob_s, mI_30, ha0.1, nI_eq0 (show (zA s).length < 2 ^ 31 by omega), mg_c, gd_t, q_firstNoticed hr0 hT, q_firstCrawl hr0 hT, bn_s, prI_none (fst1_bd (show (zR s).length < 2 ^ 31 by omega)), fst1_none, rt_b0, rt_b1, id, tellg, crwlg]
  cases hA : zA s with
  | cons a l => simp
  | nil =>
    cases (zR s).find? (fun r => r.2.2.1 || !r.2.1.isEmpty) with
    | some r => simp
    | none => cases (zR s).find? (fun r => r.2.2.2.1.isSome) <;> simp
theorem q_dead (h : RA s u) (hw0 : zW s = 0) (hP : (plF (zS s) 0).length ≤ 600) : ∃ v b, n_X3_dead (mput M S u) (some M) = some (b, mput M S v) ∧ RO (opDead s) b v := by
  have hag : Ag [0] [] u (ui u 0 0) := Ag_ui u 0 (by decide)
  have hp0 := (h.1.2.2.2.2.1.ag hag).2
  have hpn : pnd (zE s) (zW s) (plF (zS s) 0) = plF (zS s) 0 := by
    unfold pnd
    rw [hw0]
    have : ∀ l : List (Nat × Nat × Bool), l.map (fun p => (p.1, p.2.1, p.2.2 || (tb 0 p.2.1 && (zE s p.2.1).isSome))) = l := by
      intro l
      have e : ∀ k, tb 0 k = false := fun k => by simp [tb]
      simp [e]
    exact this _
  rw [hpn] at hp0
  obtain ⟨P, eP⟩ : ∃ P, P = plF (zS s) 0 := ⟨_, rfl⟩
  simp only [opDead, ← eP]
  rw [← eP] at hp0 hP
  have hz : P.length < 2 ^ 31 := by omega
  refine ⟨ui u 0 0, nI (P.countP fun p => p.2.2), ?_, RO_same h _⟩
  simp only [n_X3_dead, mw_0, ob_s]
  have key := lp_u0 (fun m k => n_X3_dead_b9 m (mput M S (ui u 0 0)) (some M) (nI ((P.take k).countP fun p => p.2.2)) (nI k)) P.length (some (nI ((P.take P.length).countP fun p => p.2.2), mput M S (ui u 0 0))) ?_ ?_ (m := FU) (by simp only [FU]; omega)
  · simp only [List.take_zero, List.countP_nil, List.take_length, nI_0] at key
    exact key
  · intro m k hk
    have hk2 : P[k]? = some P[k] := List.getElem?_eq_getElem hk
    have ht : P.take (k + 1) = P.take k ++ [P[k]] := List.take_succ_eq_append_getElem hk
    obtain ⟨-, -, r5⟩ := hp0.2 k _ hk2
    simp only [n_X3_dead_b9, n_X3_dead_b32, mI_37, ob_s, hp0.1, nI_leE hz (show k < 2 ^ 31 by omega), mR_40, ma_29 (show k < 600 by omega), r5, b2i_0, nI_1, ht, List.countP_append]
    rw [if_neg (by omega)]
    rcases Bool.eq_false_or_eq_true P[k].2.2 with hb | hb <;> simp [hb]
  · intro m
    simp only [n_X3_dead_b9, mI_37, ob_s, hp0.1, nI_leE hz hz, Nat.le_refl, if_true, rt_i, id]
/-! below, as it is known -/
theorem q_liesBelow (hr : RMr rs u) (hT : RT f rs) (he : RMe f en u) (hE : ES f en) (h6 : fMd f ≤ 60) {n a : Nat} (hn : n < fMd f) (ha : a < 60) : n_X3_liesBelow (mput M S u) (some M) (nI n) (nI a) = some (b2i (knb rs en n a), mput M S u) := by
  have key : ∀ m k (up : Option Nat), k ≤ 60 → 60 - k < m → (∀ p, up = some p → p < fMd f) → n_X3_liesBelow_b23 m (mput M S u) (some M) (nI a) (prI up) (nI k) = some (b2i (kbl rs en a (60 - k) up), mput M S u) := by
    intro m
    induction m with
    | zero => intro k up _ h; omega
    | succ m ih =>
      intro k up hk hm hup
      by_cases e : k = 60
      · subst e
        simp only [n_X3_liesBelow_b23, li_60, nI_leE (show 60 < 2 ^ 31 by decide) (show 60 < 2 ^ 31 by decide), Nat.le_refl, if_true, rt_b0, id]
        rfl
      · obtain ⟨c, hc⟩ : ∃ c, 60 - k = c + 1 := ⟨59 - k, by omega⟩
        have hc2 : 60 - (k + 1) = c := by omega
        simp only [n_X3_liesBelow_b23, li_60, nI_leE (show 60 < 2 ^ 31 by decide) (show k < 2 ^ 31 by omega)]
        rw [if_neg (by omega), hc]
        cases up with
        | none => simp only [prI_n, if_true, rt_b0, id, kbl]
        | some p =>
          have hp := hup p rfl
          have p60 : p < 60 := by omega
          obtain ⟨e1, e2⟩ := he p p60
          have hst : ∀ q, kst rs en p = some q → q < fMd f := by
            intro q hq
            unfold kst at hq
            split at hq
            · cases hq
            · cases hep : en p with
              | none => rw [hep] at hq; cases hq
              | some e => rw [hep] at hq; cases hq; exact (hE p e hep).2.1
          have ih' := ih (k + 1) (kst rs en p) (by omega) (by omega) hst
          rw [hc2] at ih'
          have h70 : ∀ x : Int32, n_X3_liesBelow_b70 (n_X3_liesBelow_b23 m) (mput M S u) (some M) (nI a) (nI k) x = n_X3_liesBelow_b23 m (mput M S u) (some M) (nI a) x (nI (k + 1)) := fun x => by
            simp only [n_X3_liesBelow_b70, nI_1]
          have h69 : n_X3_liesBelow_b69 (n_X3_liesBelow_b23 m) (mput M S u) (some M) (nI a) (nI k) = n_X3_liesBelow_b23 m (mput M S u) (some M) (nI a) (prI none) (nI (k + 1)) := h70 (-1)
          have e3 : (prI (lst (fun r : RtV => r.1 == p) rs rs.length) = -1) = (isR rs p = false) := (prI_none (fun a ha => by have := lst_lt ha; have := hT.1; omega)).trans (lst_isR p)
          simp only [prI_s, nI_e1 (show p < 2 ^ 31 by omega), if_false, nI_eqE (show p < 2 ^ 31 by omega) (show a < 2 ^ 31 by omega), mg_c, gd_t, q_rootAt hr hT.toS h6 p60, bn_s, mR_22, ob_s, ma_18 p60, e1, b2i_0, mR_23, ma_19 p60, h70, h69, e3, rt_b1, id, kbl]
          by_cases hpa : p = a
          · rw [if_pos hpa]; simp [hpa]
          · rw [if_neg hpa]
            rcases Bool.eq_false_or_eq_true (isR rs p) with b1 | b1
            · have hk0 : kst rs en p = none := by simp [kst, b1]
              rw [hk0] at ih' ⊢
              rw [if_neg (by rw [b1]; decide)]
              simpa [beq_false_of_ne hpa] using ih'
            · rw [if_pos b1]
              cases hep : en p with
              | none =>
                have hk0 : kst rs en p = none := by simp [kst, b1, hep]
                rw [hk0] at ih' ⊢
                simpa [beq_false_of_ne hpa] using ih'
              | some e =>
                have hk0 : kst rs en p = some e.1 := by simp [kst, b1, hep]
                rw [hk0] at ih' ⊢
                rw [(e2 e hep).1]
                simpa [beq_false_of_ne hpa, prI_s] using ih'
  have n60 : n < 60 := by omega
  obtain ⟨e1, e2⟩ := he n n60
  simp only [n_X3_liesBelow, n_X3_liesBelow_b19, mR_22, ob_s, ma_18 n60, e1, b2i_0, mR_23, ma_19 n60, knb]
  cases hen : en n with
  | none =>
    have := key FU 0 none (by omega) (by simp only [FU]; omega) (fun p hp => by cases hp)
    rw [nI_0, prI_n] at this
    simpa using this
  | some e =>
    have := key FU 0 (some e.1) (by omega) (by simp only [FU]; omega) (fun p hp => by cases hp; exact (hE n e hen).2.1)
    rw [nI_0, prI_s] at this
    rw [(e2 e hen).1]
    simpa using this
/-! places -/
def kilP (P : List (Nat × Nat × Bool)) (n : Nat) : List (Nat × Nat × Bool) := P.map fun p => (p.1, p.2.1, p.2.2 || p.2.1 == n)
theorem q_kills {P : List (Nat × Nat × Bool)} (h : RMp P u) (hP : P.length ≤ 600) (hb : ∀ p ∈ P, p.2.1 < 60) {n : Nat} (hn : n < 60) : ∃ v, n_X3_kills (mput M S u) (some M) (nI n) = some ((), mput M S v) ∧ Ag [] [29] u v ∧ RMp (kilP P n) v := by
  have hz : P.length < 2 ^ 31 := by omega
  have key := lp_st (fun m k (v : MM) => n_X3_kills_b2 m (mput M S v) (some M) (nI n) (nI k)) (fun v => some ((), mput M S v)) (fun k v => Ag [] [29] u v ∧ (∀ i p, i < k → P[i]? = some p → v.2 29 i = b2i (p.2.2 || p.2.1 == n)) ∧ ∀ i, k ≤ i → v.2 29 i = u.2 29 i) (fun v => Ag [] [29] u v ∧ ∀ i p, P[i]? = some p → v.2 29 i = b2i (p.2.2 || p.2.1 == n)) P.length ?_ ?_ FU 0 u (Nat.zero_le _) (by simp only [FU]; omega) ⟨Ag_rf _ _ _, fun i p hi => by omega, fun i _ => rfl⟩
  · obtain ⟨v, ⟨g1, g2⟩, g3⟩ := key
    rw [nI_0] at g3
    refine ⟨v, g3, g1, ?_, fun i p hi => ?_⟩
    · rw [g1.1 37 (by decide), h.1]; simp [kilP]
    · unfold kilP at hi
      rw [List.getElem?_map] at hi
      obtain ⟨p0, hp0, rfl⟩ := Option.map_eq_some_iff.mp hi
      obtain ⟨a1, a2, -⟩ := h.2 i p0 hp0
      exact ⟨by rw [g1.2 27 (by decide)]; exact a1, by rw [g1.2 28 (by decide)]; exact a2, g2 i p0 hp0⟩
  · intro m k v hk ⟨g1, g2, g3⟩
    have hk2 : P[k]? = some P[k] := List.getElem?_eq_getElem hk
    obtain ⟨-, a2, a3⟩ := h.2 k _ hk2
    have hb1 := hb _ (List.getElem_mem hk)
    have t := ms_29 (M := M) (S := S) (u := v) (i := k) (P[k].2.2 || P[k].2.1 == n) (by omega)
    refine ⟨ua v 29 k (b2i (P[k].2.2 || P[k].2.1 == n)), ⟨Ag_tr g1 (Ag_ua _ _ _ (by decide)), fun i p hi hp => ?_, fun i hi => ?_⟩, ?_⟩
    · rw [ua_2]
      by_cases e : i = k
      · subst e; rw [if_pos ⟨rfl, rfl⟩]; rw [hk2] at hp; cases hp; rfl
      · rw [if_neg (by simp [e])]; exact g2 i p (by omega) hp
    · rw [ua_2, if_neg (by simp; omega)]; exact g3 i (by omega)
    · have f39 : n_X3_kills_b39 (n_X3_kills_b2 m) (mput M S v) (some M) (nI n) (nI k) (b2i (P[k].2.2 || P[k].2.1 == n)) (nI k) (some (adr M 29)) = n_X3_kills_b2 m (mput M S (ua v 29 k (b2i (P[k].2.2 || P[k].2.1 == n)))) (some M) (nI n) (nI (k + 1)) := by
        simp only [n_X3_kills_b39, t, ob_s, nI_1]
      have c34 : n_X3_kills_b34 (n_X3_kills_b2 m) (mput M S v) (some M) (nI n) (nI k) (nI k) (some (adr M 29)) = n_X3_kills_b39 (n_X3_kills_b2 m) (mput M S v) (some M) (nI n) (nI k) (b2i true) (nI k) (some (adr M 29)) := rfl
      have c0 : n_X3_kills_b39 (n_X3_kills_b2 m) (mput M S v) (some M) (nI n) (nI k) 0 (nI k) (some (adr M 29)) = n_X3_kills_b39 (n_X3_kills_b2 m) (mput M S v) (some M) (nI n) (nI k) (b2i false) (nI k) (some (adr M 29)) := rfl
      have v29 : v.2 29 k = b2i P[k].2.2 := by rw [g3 k (Nat.le_refl _)]; exact a3
      have v28 : v.2 28 k = nI P[k].2.1 := by rw [g1.2 28 (by decide)]; exact a2
      have v37 : v.1 37 = nI P.length := by rw [g1.1 37 (by decide)]; exact h.1
      simp only [n_X3_kills_b2, mI_37, ob_s, v37, nI_leE hz (show k < 2 ^ 31 by omega), mR_40, ma_29 (show k < 600 by omega), v29, b2i_0, mR_39, ma_28 (show k < 600 by omega), v28, nI_eqE (show P[k].2.1 < 2 ^ 31 by omega) (show n < 2 ^ 31 by omega), c34, c0]
      rw [if_neg (by omega), ← f39]
      rcases Bool.eq_false_or_eq_true P[k].2.2 with b1 | b1
      · simp [b1]
      · by_cases e : P[k].2.1 = n
        · simp [b1, e]
        · simp [b1, e, beq_false_of_ne e]
  · intro m v ⟨g1, g2, g3⟩
    have v37 : v.1 37 = nI P.length := by rw [g1.1 37 (by decide)]; exact h.1
    refine ⟨v, ⟨g1, fun i p hp => g2 i p (List.getElem?_eq_some_iff.mp hp).1 hp⟩, ?_⟩
    simp only [n_X3_kills_b2, mI_37, ob_s, v37, nI_leE hz hz, Nat.le_refl, if_true]
end
