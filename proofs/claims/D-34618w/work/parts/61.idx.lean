/-! the reference's index: places in a row, segments -/
abbrev PlV := Nat × Nat × Bool
def decP (j : Nat) (P : List PlV) : List PlV := P.map fun p => (if j < p.1 then p.1 - 1 else p.1, p.2)
section
variable {M : Nat} {S : St} {u v w : MM} {f f' : Fl} {rs rs' : List RtV} {en : En} {ac : List AcV} {s : Sg} {rk rk' : Nat → Nat} {P : List PlV}
theorem plF_ge {p : PlV} : ∀ (sg : List SgV) (i : Nat), p ∈ plF sg i → i ≤ p.1 := by
  intro sg
  induction sg with
  | nil => intro i h; cases h
  | cons a t ih =>
    intro i h
    rcases List.mem_append.mp h with h | h
    · obtain ⟨q, -, rfl⟩ := List.mem_map.mp h; exact Nat.le_refl _
    · have := ih (i + 1) h; omega
theorem plF_app : ∀ (a b : List SgV) (i : Nat), plF (a ++ b) i = plF a i ++ plF b (i + a.length) := by
  intro a
  induction a with
  | nil => intro b i; simp [plF]
  | cons x t ih =>
    intro b i
    simp only [List.cons_append, plF, ih, List.length_cons, List.append_assoc]
    rw [show i + 1 + t.length = i + (t.length + 1) by omega]
theorem dec_all {j : Nat} : ∀ (sg : List SgV) (i : Nat), j ≤ i → decP j (plF sg (i + 1)) = plF sg i := by
  intro sg
  induction sg with
  | nil => intro i _; rfl
  | cons a t ih =>
    intro i h
    have := ih (i + 1) (by omega)
    unfold decP at this ⊢
    simp only [plF, List.map_append, List.map_map, this]
    congr 1
    refine List.map_congr_left fun p _ => ?_
    simp only [Function.comp]
    rw [if_pos (by omega)]; rfl
theorem dec_keep {i : Nat} {j : Nat} (l : List (Nat × Bool)) (h : i ≤ j) : decP j (l.map fun p => ((i, p.1, p.2) : PlV)) = l.map fun p => (i, p.1, p.2) := by
  unfold decP
  rw [List.map_map]
  refine List.map_congr_left fun p _ => ?_
  simp only [Function.comp]
  rw [if_neg (by omega)]
theorem dec_app (j : Nat) (a b : List PlV) : decP j (a ++ b) = decP j a ++ decP j b := by simp [decP]
theorem dec_erase : ∀ (j : Nat) (sg : List SgV) (i : Nat) (g : SgV), sg[j]? = some g → g.2 = [] → decP (i + j) (plF sg i) = plF (sg.eraseIdx j) i := by
  intro j
  induction j with
  | zero =>
    intro sg i g h hg
    cases sg with
    | nil => cases h
    | cons a t =>
      simp at h
      subst h
      simp only [plF, hg, List.map_nil, List.nil_append, List.eraseIdx_cons_zero]
      exact dec_all t i (by omega)
  | succ j ih =>
    intro sg i g h hg
    cases sg with
    | nil => cases h
    | cons a t =>
      simp only [plF, List.eraseIdx_cons_succ]
      rw [dec_app, dec_keep _ (by omega)]
      have := ih t (i + 1) g (by simpa using h) hg
      rw [show i + (j + 1) = i + 1 + j by omega, this]
theorem dec_merge : ∀ (j : Nat) (sg : List SgV) (i : Nat) (a b : SgV), sg[j]? = some a → sg[j + 1]? = some b → decP (i + j) (plF sg i) = plF ((sg.set j (a.1, a.2 ++ b.2)).eraseIdx (j + 1)) i := by
  intro j
  induction j with
  | zero =>
    intro sg i a b h h2
    cases sg with
    | nil => cases h
    | cons x t =>
      simp at h
      subst h
      cases t with
      | nil => simp at h2
      | cons y t =>
        simp at h2
        subst h2
        simp only [plF, List.set_cons_zero, List.eraseIdx_cons_succ, List.eraseIdx_cons_zero, List.map_append, List.append_assoc]
        rw [dec_app, dec_keep _ (by omega), dec_app, Nat.add_zero]
        congr 1
        have e := dec_all (j := i) (y :: t) i (Nat.le_refl _)
        simp only [plF] at e
        rw [dec_app] at e
        exact e
  | succ j ih =>
    intro sg i a b h h2
    cases sg with
    | nil => cases h
    | cons x t =>
      simp only [plF, List.set_cons_succ, List.eraseIdx_cons_succ]
      rw [dec_app, dec_keep _ (by omega)]
      have := ih t (i + 1) a b (by simpa using h) (by simpa using h2)
      rw [show i + (j + 1) = i + 1 + j by omega, this]
def clnP (j : Nat) (P : List PlV) : List PlV := P.filter fun p => !(p.1 == j && p.2.2)
theorem cln_keep : ∀ (sg : List SgV) (i j : Nat), j < i → clnP j (plF sg i) = plF sg i := by
  intro sg i j h
  refine List.filter_eq_self.mpr fun p hp => ?_
  have := plF_ge sg i hp
  have : (p.1 == j) = false := beq_false_of_ne (by omega)
  simp [this]
theorem cln_set : ∀ (j : Nat) (sg : List SgV) (i : Nat) (g : SgV), sg[j]? = some g → clnP (i + j) (plF sg i) = plF (sg.set j (g.1, lvS g)) i := by
  intro j
  induction j with
  | zero =>
    intro sg i g h
    cases sg with
    | nil => cases h
    | cons a t =>
      simp at h
      subst h
      simp only [plF, List.set_cons_zero, Nat.add_zero]
      unfold clnP
      rw [List.filter_append]
      have e := cln_keep t (i + 1) i (by omega)
      unfold clnP at e
      rw [e, List.filter_map]
      congr 1
      simp only [lvS]
      congr 1
      refine List.filter_congr fun p _ => ?_
      simp
  | succ j ih =>
    intro sg i g h
    cases sg with
    | nil => cases h
    | cons a t =>
      simp only [plF, List.set_cons_succ]
      have := ih t (i + 1) g (by simpa using h)
      rw [show i + 1 + j = i + (j + 1) by omega] at this
      unfold clnP at this ⊢
      rw [List.filter_append, this]
      congr 1
      refine List.filter_eq_self.mpr fun p hp => ?_
      obtain ⟨q, -, rfl⟩ := List.mem_map.mp hp
      have : (i == i + (j + 1)) = false := beq_false_of_ne (by omega)
      simp [this]
theorem cnt_at (q : Bool → Bool) : ∀ (j : Nat) (sg : List SgV) (i : Nat) (g : SgV), sg[j]? = some g → (plF sg i).countP (fun p => p.1 == i + j && q p.2.2) = g.2.countP fun p => q p.2 := by
  intro j
  induction j with
  | zero =>
    intro sg i g h
    cases sg with
    | nil => cases h
    | cons a t =>
      simp at h
      subst h
      simp only [plF, List.countP_append, List.countP_map, Nat.add_zero]
      have : (plF t (i + 1)).countP (fun p => p.1 == i && q p.2.2) = 0 := by
        refine List.countP_eq_zero.mpr fun p hp => ?_
        have := plF_ge t (i + 1) hp
        have : (p.1 == i) = false := beq_false_of_ne (by omega)
        simp [this]
      rw [this, Nat.add_zero]
      congr 1
      funext p
      simp [Function.comp]
  | succ j ih =>
    intro sg i g h
    cases sg with
    | nil => cases h
    | cons a t =>
      simp only [plF, List.countP_append, List.countP_map]
      have := ih t (i + 1) g (by simpa using h)
      rw [show i + 1 + j = i + (j + 1) by omega] at this
      rw [this]
      have : a.2.countP ((fun p : PlV => p.1 == i + (j + 1) && q p.2.2) ∘ fun p => (i, p.1, p.2)) = 0 := by
        refine List.countP_eq_zero.mpr fun p _ => ?_
        have : (i == i + (j + 1)) = false := beq_false_of_ne (by omega)
        simp [this]
      rw [this, Nat.zero_add]
theorem q_takesPlace (h : RMp P u) (hl : P.length ≤ 600) {i : Nat} (hi : i < P.length) : ∃ v, n_X3_takesPlace (mput M S u) (some M) (nI i) = some ((), mput M S v) ∧ Ag [37] [27, 28, 29] u v ∧ RMp (P.eraseIdx i) v := by
  have hz : P.length < 2 ^ 31 := by omega
  obtain ⟨n, hn⟩ : ∃ n, P.length = n + 1 := ⟨P.length - 1, by omega⟩
  have s1 := mw_37 (M := M) (S := S) (u := u) (x := nI n)
  simp only [n_X3_takesPlace, mI_37, ob_s, h.1, hn, nI_pred, s1]
  have key := lp_st (fun m k (v : MM) => n_X3_takesPlace_b12 m (mput M S v) (some M) (nI (i + k))) (fun v => some ((), mput M S v)) (fun k v => Ag [37] [27, 28, 29] u v ∧ v.1 37 = nI n ∧ Sh 27 1 i (i + k) u v ∧ Sh 28 1 i (i + k) u v ∧ Sh 29 1 i (i + k) u v) (fun v => Ag [37] [27, 28, 29] u v ∧ v.1 37 = nI n ∧ Sh 27 1 i n u v ∧ Sh 28 1 i n u v ∧ Sh 29 1 i n u v) (n - i) ?_ ?_ FU 0 (ui u 37 (nI n)) (Nat.zero_le _) (by simp only [FU]; omega) ⟨Ag_ui u _ (by decide), by simp [ui_1], Sh_rf 27 1 i u, Sh_rf 28 1 i u, Sh_rf 29 1 i u⟩
  · obtain ⟨v, ⟨h2, h3, h4, h5, h6⟩, h1⟩ := key
    simp only [Nat.add_zero] at h1
    refine ⟨v, h1, h2, ?_, fun j a hj => ?_⟩
    · rw [h3, List.length_eraseIdx, if_pos hi, hn]; rfl
    · rw [List.getElem?_eraseIdx] at hj
      split at hj
      · next hji =>
        rw [Sh_lo h4 hji, Sh_lo h5 hji, Sh_lo h6 hji]; exact h.2 j a hj
      · next hji =>
        have := (List.getElem?_eq_some_iff.mp hj).1
        rw [Sh_mi h4 (by omega) (by omega), Sh_mi h5 (by omega) (by omega), Sh_mi h6 (by omega) (by omega)]
        exact h.2 (j + 1) a hj
  · intro m k v hk ⟨g1, g2, g3, g4, g5⟩
    refine ⟨ua (ua (ua v 27 (i + k) (v.2 27 (i + k + 1))) 28 (i + k) (v.2 28 (i + k + 1))) 29 (i + k) (v.2 29 (i + k + 1)), ⟨Ag_tr (Ag_tr (Ag_tr g1 (Ag_ua _ _ _ (by decide))) (Ag_ua _ _ _ (by decide))) (Ag_ua _ _ _ (by decide)), g2, ?_, ?_, ?_⟩, ?_⟩
    · exact Sh_ot (Sh_ot (Sh_st (k := i + k) g3 (by omega) (by decide)) (by decide)) (by decide)
    · exact Sh_ot (Sh_st (k := i + k) (Sh_ot g4 (by decide)) (by omega) (by decide)) (by decide)
    · exact Sh_st (k := i + k) (Sh_ot (Sh_ot g5 (by decide)) (by decide)) (by omega) (by decide)
    · have hb : v.2 29 (i + k + 1) = b2i (P[i + k + 1]'(by omega)).2.2 := by
        rw [Sh_hi g5 (by omega)]
        exact (h.2 (i + k + 1) _ (List.getElem?_eq_getElem (by omega))).2.2
      have t1 := ms_27 (M := M) (S := S) (u := v) (i := i + k) (x := v.2 27 (i + k + 1)) (by omega)
      have t2 := ms_28 (M := M) (S := S) (u := ua v 27 (i + k) (v.2 27 (i + k + 1))) (i := i + k) (x := v.2 28 (i + k + 1)) (by omega)
      have t3 := ms_29 (M := M) (S := S) (u := ua (ua v 27 (i + k) (v.2 27 (i + k + 1))) 28 (i + k) (v.2 28 (i + k + 1))) (i := i + k) (P[i + k + 1]'(by omega)).2.2 (by omega)
      rw [← hb] at t3
      simp only [n_X3_takesPlace_b12, mI_37, ob_s, g2, nI_leE (show n < 2 ^ 31 by omega) (show i + k < 2 ^ 31 by omega), mR_38, nI_1, ma_27 (show i + k + 1 < 600 by omega), t1, mR_39, ma_28 (show i + k + 1 < 600 by omega), ua_2, show ((28 : Nat) = 27) = False by decide, show ((29 : Nat) = 27) = False by decide, show ((29 : Nat) = 28) = False by decide, false_and, if_false, t2, mR_40, ma_29 (show i + k + 1 < 600 by omega), t3]
      rw [if_neg (by omega)]
      rfl
  · intro m v ⟨g1, g2, g3, g4, g5⟩
    have e : i + (n - i) = n := by omega
    rw [e] at g3 g4 g5
    refine ⟨v, ⟨g1, g2, g3, g4, g5⟩, ?_⟩
    simp only [n_X3_takesPlace_b12, mI_37, ob_s, g2, e, nI_leE (show n < 2 ^ 31 by omega) (show n < 2 ^ 31 by omega), Nat.le_refl, if_true]
theorem q_cleans (h : RMp P u) (hl : P.length ≤ 600) (hb : ∀ p ∈ P, p.1 < 600) {j : Nat} (hj : j < 600) : ∃ v, n_X3_cleans (mput M S u) (some M) (nI j) = some ((), mput M S v) ∧ Ag [37] [27, 28, 29] u v ∧ RMp (clnP j P) v := by
  have hz : P.length < 2 ^ 31 := by omega
  simp only [n_X3_cleans, mI_37, ob_s, h.1]
  have key := lp_sd (fun m k (v : MM) => n_X3_cleans_b7 m (mput M S v) (some M) (nI j) (nI k - 1)) (fun v => some ((), mput M S v)) (fun k v => k ≤ P.length ∧ Ag [37] [27, 28, 29] u v ∧ RMp (P.take k ++ clnP j (P.drop k)) v) (fun v => Ag [37] [27, 28, 29] u v ∧ RMp (clnP j P) v) ?_ ?_ FU P.length u (by simp only [FU]; omega) ⟨Nat.le_refl _, Ag_rf _ _ _, by simpa [clnP] using h⟩
  · obtain ⟨v, ⟨g1, g2⟩, g3⟩ := key
    exact ⟨v, g3, g1, g2⟩
  · intro m k v ⟨hk, g1, g2⟩
    have hkl : k < P.length := by omega
    have et : P.take (k + 1) = P.take k ++ [P[k]] := List.take_succ_eq_append_getElem hkl
    rw [et, List.append_assoc, List.singleton_append] at g2
    have hlen : (P.take k).length = k := by simp; omega
    have hget : (P.take k ++ (P[k] :: clnP j (P.drop (k + 1))))[k]? = some P[k] := by
      rw [List.getElem?_append_right (by omega), hlen]; simp
    obtain ⟨a1, -, a3⟩ := g2.2 k _ hget
    have hbk := hb _ (List.getElem_mem hkl)
    have ed : clnP j (P.drop k) = if (!(P[k].1 == j && P[k].2.2)) = true then P[k] :: clnP j (P.drop (k + 1)) else clnP j (P.drop (k + 1)) := by
      unfold clnP
      rw [List.drop_eq_getElem_cons hkl, List.filter_cons]
    have h35 : ∀ w : MM, n_X3_cleans_b35 (n_X3_cleans_b7 m) (mput M S w) (some M) (nI j) (nI k) = n_X3_cleans_b7 m (mput M S w) (some M) (nI j) (nI k - 1) := fun w => by simp only [n_X3_cleans_b35, i_addm1]
    have hle : (clnP j (P.drop (k + 1))).length ≤ (P.drop (k + 1)).length := List.length_filter_le _ _
    rw [List.length_drop] at hle
    simp only [n_X3_cleans_b7, nI_pred, nI_lt0 (show k < 2 ^ 31 by omega), if_false, mR_38, ob_s, ma_27 (show k < 600 by omega), a1, nI_eqE (show P[k].1 < 2 ^ 31 by omega) (show j < 2 ^ 31 by omega), mR_40, ma_29 (show k < 600 by omega), a3, b2i_0, mg_c, gd_t, h35]
    rw [ed]
    by_cases c : P[k].1 = j ∧ P[k].2.2 = true
    · obtain ⟨v2, d1, d2, d3⟩ := q_takesPlace (M := M) (S := S) g2 (by rw [List.length_append, List.length_cons, hlen]; omega) (i := k) (by rw [List.length_append, List.length_cons, hlen]; omega)
      refine ⟨v2, ⟨by omega, Ag_tr g1 d2, ?_⟩, ?_⟩
      · rw [List.eraseIdx_append_of_length_le (by omega), hlen] at d3
        simpa [c.1, c.2] using d3
      · simp [c.1, c.2, d1, bn_s, h35]
    · refine ⟨v, ⟨by omega, g1, ?_⟩, ?_⟩
      · have : (!(P[k].1 == j && P[k].2.2)) = true := by
          rcases Bool.eq_false_or_eq_true P[k].2.2 with z | z
          · have : ¬ P[k].1 = j := fun z2 => c ⟨z2, z⟩
            simp [beq_false_of_ne this]
          · simp [z]
        rw [if_pos this]; exact g2
      · by_cases c1 : P[k].1 = j
        · have : P[k].2.2 = false := by
            cases hq : P[k].2.2 with
            | false => rfl
            | true => exact absurd ⟨c1, hq⟩ c
          simp [c1, this]
        · simp [c1]
  · intro m v ⟨_, g1, g2⟩
    refine ⟨v, ⟨g1, by simpa using g2⟩, ?_⟩
    simp only [n_X3_cleans_b7, e_m1, if_true]
theorem q_joins (h : RMp P u) (hl : P.length ≤ 600) (hb : ∀ p ∈ P, p.1 < 600) {j n : Nat} (hj : j < 600) (hn : u.1 41 = nI (n + 1)) : ∃ v, n_X3_joins (mput M S u) (some M) (nI j) = some ((), mput M S v) ∧ Ag [41] [27] u v ∧ RMp (decP j P) v ∧ v.1 41 = nI n := by
  have hz : P.length < 2 ^ 31 := by omega
  have s1 := mw_41 (M := M) (S := S) (u := u) (x := nI n)
  simp only [n_X3_joins, mI_41, ob_s, hn, nI_pred, s1]
  have key := lp_st (fun m k (v : MM) => n_X3_joins_b12 m (mput M S v) (some M) (nI j) (nI k)) (fun v => some ((), mput M S v)) (fun k v => Ag [41] [27] u v ∧ v.1 41 = nI n ∧ (∀ i p, i < k → P[i]? = some p → v.2 27 i = nI (if j < p.1 then p.1 - 1 else p.1)) ∧ ∀ i, k ≤ i → v.2 27 i = u.2 27 i) (fun v => Ag [41] [27] u v ∧ v.1 41 = nI n ∧ ∀ i p, P[i]? = some p → v.2 27 i = nI (if j < p.1 then p.1 - 1 else p.1)) P.length ?_ ?_ FU 0 (ui u 41 (nI n)) (Nat.zero_le _) (by simp only [FU]; omega) ⟨Ag_ui _ _ (by decide), by rw [ui_1, if_pos rfl], fun i p hi => by omega, fun i _ => rfl⟩
  · obtain ⟨v, ⟨g1, g2, g3⟩, g4⟩ := key
    rw [nI_0] at g4
    refine ⟨v, g4, g1, ⟨?_, fun i p hi => ?_⟩, g2⟩
    · rw [g1.1 37 (by decide), h.1]; simp [decP]
    · unfold decP at hi
      rw [List.getElem?_map] at hi
      obtain ⟨p0, hp0, rfl⟩ := Option.map_eq_some_iff.mp hi
      obtain ⟨-, a2, a3⟩ := h.2 i p0 hp0
      exact ⟨g3 i p0 hp0, by rw [g1.2 28 (by decide)]; exact a2, by rw [g1.2 29 (by decide)]; exact a3⟩
  · intro m k v hk ⟨g1, g2, g3, g4⟩
    have hk2 : P[k]? = some P[k] := List.getElem?_eq_getElem hk
    obtain ⟨a1, -, -⟩ := h.2 k _ hk2
    have hb1 := hb _ (List.getElem_mem hk)
    have v27 : v.2 27 k = nI P[k].1 := by rw [g4 k (Nat.le_refl _)]; exact a1
    have v37 : v.1 37 = nI P.length := by rw [g1.1 37 (by decide)]; exact h.1
    have t := ms_27 (M := M) (S := S) (u := v) (i := k) (x := nI (if j < P[k].1 then P[k].1 - 1 else P[k].1)) (by omega)
    refine ⟨ua v 27 k (nI (if j < P[k].1 then P[k].1 - 1 else P[k].1)), ⟨Ag_tr g1 (Ag_ua _ _ _ (by decide)), g2, fun i p hi hp => ?_, fun i hi => ?_⟩, ?_⟩
    · rw [ua_2]
      by_cases e : i = k
      · subst e; rw [if_pos ⟨rfl, rfl⟩]; rw [hk2] at hp; cases hp; rfl
      · rw [if_neg (by simp [e])]; exact g3 i p (by omega) hp
    · rw [ua_2, if_neg (by simp; omega)]; exact g4 i (by omega)
    · simp only [n_X3_joins_b12, n_X3_joins_b42, mI_37, ob_s, v37, nI_leE hz (show k < 2 ^ 31 by omega), mR_38, ma_27 (show k < 600 by omega), v27, nI_leE (show P[k].1 < 2 ^ 31 by omega) (show j < 2 ^ 31 by omega), nI_1]
      rw [if_neg (by omega)]
      by_cases c : P[k].1 ≤ j
      · rw [if_pos c]
        rw [if_neg (by omega)] at t ⊢
        rw [Int32.sub_zero, t, ob_s]
      · rw [if_neg c]
        rw [if_pos (by omega)] at t ⊢
        rw [li_1, nI_subI (by omega), t, ob_s]
  · intro m v ⟨g1, g2, g3, g4⟩
    have v37 : v.1 37 = nI P.length := by rw [g1.1 37 (by decide)]; exact h.1
    refine ⟨v, ⟨g1, g2, fun i p hp => g3 i p (List.getElem?_eq_some_iff.mp hp).1 hp⟩, ?_⟩
    simp only [n_X3_joins_b12, mI_37, ob_s, v37, nI_leE hz hz, Nat.le_refl, if_true]
theorem q_count (h : RMp P u) (hl : P.length ≤ 600) (hb : ∀ p ∈ P, p.1 < 600) {j : Nat} (hj : j < 600) (d : Bool) : n_X3_count (mput M S u) (some M) (nI j) (b2i d) = some (nI (P.countP fun p => p.1 == j && (p.2.2 || !d)), mput M S u) := by
  have hz : P.length < 2 ^ 31 := by omega
  unfold n_X3_count
  have key := lp_u0 (fun m k => n_X3_count_b5 m (mput M S u) (some M) (nI j) (b2i d) (nI ((P.take k).countP fun p => p.1 == j && (p.2.2 || !d))) (nI k)) P.length (some (nI ((P.take P.length).countP fun p => p.1 == j && (p.2.2 || !d)), mput M S u)) ?_ ?_ (m := FU) (by simp only [FU]; omega)
  · simp only [List.take_zero, List.countP_nil, List.take_length, nI_0] at key
    exact key
  · intro m k hk
    have hk2 : P[k]? = some P[k] := List.getElem?_eq_getElem hk
    have ht : P.take (k + 1) = P.take k ++ [P[k]] := List.take_succ_eq_append_getElem hk
    obtain ⟨a1, -, a3⟩ := h.2 k _ hk2
    have hbk := hb _ (List.getElem_mem hk)
    simp only [n_X3_count_b5, n_X3_count_b40, n_X3_count_b44, n_X3_count_b45, mI_37, ob_s, h.1, nI_leE hz (show k < 2 ^ 31 by omega), mR_38, ma_27 (show k < 600 by omega), a1, nI_eqE (show P[k].1 < 2 ^ 31 by omega) (show j < 2 ^ 31 by omega), mR_40, ma_29 (show k < 600 by omega), a3, b2i_0, nI_1, ht, List.countP_append]
    rw [if_neg (by omega)]
    by_cases c : P[k].1 = j
    · rcases Bool.eq_false_or_eq_true P[k].2.2 with c2 | c2
      · simp [c, c2]
      · cases d <;> simp [c, c2]
    · simp [c, beq_false_of_ne c]
  · intro m
    simp only [n_X3_count_b5, mI_37, ob_s, h.1, nI_leE hz hz, Nat.le_refl, if_true, rt_i, id]
end
