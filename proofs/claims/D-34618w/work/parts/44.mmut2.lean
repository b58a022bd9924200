/-! the reference's doings: rows that move up, acts -/
section
variable {M : Nat} {S : St} {u v w : MM} {f : Fl} {rk : Nat → Nat} {rs : List RtV} {en : En} {ac : List AcV}
/-- from i on, below k, what stood d places further -/
def Sh (p d i k : Nat) (u w : MM) : Prop := ∀ j, w.2 p j = if i ≤ j ∧ j < k then u.2 p (j + d) else u.2 p j
theorem Sh_rf (p d i : Nat) (u : MM) : Sh p d i i u u := fun j => by rw [if_neg (by omega)]
theorem Sh_st {p d i k : Nat} (h : Sh p d i k u w) (hk : i ≤ k) (hd : 0 < d) : Sh p d i (k + 1) u (ua w p k (w.2 p (k + d))) := fun j => by
  rw [ua_2]
  by_cases e : j = k
  · subst e
    rw [if_pos ⟨rfl, rfl⟩, h (j + d), if_neg (by omega), if_pos (by omega)]
  · rw [if_neg (by simp [e]), h j]
    by_cases c : i ≤ j ∧ j < k
    · rw [if_pos c, if_pos (by omega)]
    · rw [if_neg c, if_neg (by omega)]
theorem Sh_ot {p d i k p' k' : Nat} {x : Int32} (h : Sh p d i k u w) (hp : p ≠ p') : Sh p d i k u (ua w p' k' x) := fun j => by
  rw [ua_2, if_neg (by simp [hp])]; exact h j
theorem Sh_ui {p d i k k' : Nat} {x : Int32} (h : Sh p d i k u w) : Sh p d i k u (ui w k' x) := h
theorem Sh_lo {p d i k j : Nat} (h : Sh p d i k u w) (hj : j < i) : w.2 p j = u.2 p j := by rw [h j, if_neg (by omega)]
theorem Sh_mi {p d i k j : Nat} (h : Sh p d i k u w) (h1 : i ≤ j) (h2 : j < k) : w.2 p j = u.2 p (j + d) := by rw [h j, if_pos ⟨h1, h2⟩]
theorem Sh_hi {p d i k j : Nat} (h : Sh p d i k u w) (hj : k ≤ j) : w.2 p j = u.2 p j := by rw [h j, if_neg (by omega)]
theorem lst_some {α : Type} {p : α → Bool} {l : List α} : ∀ {k i : Nat}, lst p l k = some i → i < k ∧ ∃ x, l[i]? = some x ∧ p x = true := by
  intro k
  induction k with
  | zero => intro i h; cases h
  | succ k ih =>
    intro i h
    simp only [lst] at h
    split at h
    · have := ih h; exact ⟨by omega, this.2⟩
    · next x hx =>
      split at h
      · next hp => cases h; exact ⟨by omega, x, hx, hp⟩
      · have := ih h; exact ⟨by omega, this.2⟩
theorem lst_none {α : Type} {p : α → Bool} {l : List α} : ∀ {k : Nat}, lst p l k = none → ∀ i x, i < k → l[i]? = some x → p x = false := by
  intro k
  induction k with
  | zero => intro _ i x h; omega
  | succ k ih =>
    intro h i x hi hx
    simp only [lst] at h
    split at h
    · next hn =>
      by_cases e : i = k
      · subst e; rw [hx] at hn; cases hn
      · exact ih h i x (by omega) hx
    · next y hy =>
      split at h
      · cases h
      · next hp =>
        by_cases e : i = k
        · subst e; rw [hx] at hy; cases hy; simpa using hp
        · exact ih h i x (by omega) hx
theorem adA_none {n : Nat} {d : Bool} (h : lst (fun a : AcV => a.1 == n) ac ac.length = none) : adA ac n d = ac ++ [(n, d, false)] := by
  have h1 : ac.any (fun a => a.1 == n) = false := by
    rw [List.any_eq_false]
    intro a ha
    obtain ⟨i, hi⟩ := List.mem_iff_getElem?.mp ha
    have := lst_none h i a (List.getElem?_eq_some_iff.mp hi).1 hi
    simpa using this
  simp only [adA, h1]; rfl
theorem AB.inj (h : AB f ac) {i j : Nat} {a b : AcV} (hi : ac[i]? = some a) (hj : ac[j]? = some b) (e : a.1 = b.1) : i = j := by
  have hi' : (ac.map (·.1))[i]? = some a.1 := by rw [List.getElem?_map, hi]; rfl
  have hj' : (ac.map (·.1))[j]? = some b.1 := by rw [List.getElem?_map, hj]; rfl
  exact (List.getElem?_inj (List.getElem?_eq_some_iff.mp hi').1 h.1).mp (hi'.trans ((congrArg some e).trans hj'.symm))
theorem adA_some {n i : Nat} {d : Bool} {a : AcV} (hA : AB f ac) (hi : ac[i]? = some a) (hn : a.1 = n) : adA ac n d = ac.set i (n, d, a.2.2) := by
  have hil := (List.getElem?_eq_some_iff.mp hi).1
  have h1 : ac.any (fun a => a.1 == n) = true := List.any_eq_true.mpr ⟨a, List.mem_of_getElem? hi, by simp [hn]⟩
  simp only [adA, h1, if_true]
  refine List.ext_getElem? fun j => ?_
  rw [List.getElem?_map, List.getElem?_set]
  split
  · next e => subst e; rw [hi]; simp [hn]
  · next e =>
    cases hj : ac[j]? with
    | none => rfl
    | some b =>
      have hb : b.1 ≠ n := fun z => e (hA.inj hi hj (hn.trans z.symm))
      simp [hb]
theorem adA_AB {n : Nat} {d : Bool} (hA : AB f ac) (hn : n < fMd f) : AB f (adA ac n d) := by
  by_cases h1 : ac.any (fun a => a.1 == n) = true
  · simp only [adA, h1, if_true]
    refine ⟨?_, ?_⟩
    · have e : (ac.map (fun a => if a.1 = n then (n, d, a.2.2) else a)).map (·.1) = ac.map (·.1) := by
        rw [List.map_map]
        refine List.map_congr_left fun a _ => ?_
        simp only [Function.comp]
        split
        · next z => exact z.symm
        · rfl
      rw [e]; exact hA.1
    · intro a ha
      obtain ⟨b, hb, rfl⟩ := List.mem_map.mp ha
      have := hA.2 b hb
      split
      · exact hn
      · exact this
  · have h2 : ac.any (fun a => a.1 == n) = false := Bool.eq_false_iff.mpr h1
    simp only [adA, h2]
    refine ⟨?_, ?_⟩
    · show ((ac ++ [(n, d, false)]).map (·.1)).Nodup
      rw [List.map_append, List.nodup_append]
      refine ⟨hA.1, by simp, fun x hx y hy => ?_⟩
      obtain ⟨a, ha, rfl⟩ := List.mem_map.mp hx
      simp at hy
      subst hy
      rw [List.any_eq_false] at h2
      have := h2 a ha
      simpa using this
    · intro a ha
      rcases List.mem_append.mp ha with z | z
      · exact hA.2 a z
      · simp at z; subst z; exact hn
theorem q_adds (h : RMa ac u) (hA : AB f ac) (h6 : fMd f ≤ 60) {n : Nat} (hn : n < fMd f) (d : Bool) : ∃ v, n_X3_adds (mput M S u) (some M) (nI n) (if d then 2 else 1) = some ((), mput M S v) ∧ Ag [30] [24, 25, 26] u v ∧ RMa (adA ac n d) v := by
  have hlen := hA.len h6
  have hz : ac.length < 2 ^ 31 := by omega
  have hkd : ∀ d : Bool, gfit (g_ty 0) (if d then 2 else 1) = true := fun d => rfl
  let Q := fun b : Unit × St => ∃ v, b = ((), mput M S v) ∧ Ag [30] [24, 25, 26] u v ∧ RMa (adA ac n d) v
  have hfin : ∀ m : Nat, ∃ v, n_X3_adds_b5 (m + 1) (mput M S u) (some M) (nI n) (if d then 2 else 1) (prI (lst (fun a => a.1 == n) ac ac.length)) (nI ac.length) = some ((), mput M S v) ∧ Ag [30] [24, 25, 26] u v ∧ RMa (adA ac n d) v := by
    intro m
    simp only [n_X3_adds_b5, n_X3_adds_b72, mI_30, ob_s, h.1, nI_leE hz hz, Nat.le_refl, if_true]
    cases hl : lst (fun a => a.1 == n) ac ac.length with
    | none =>
      have hlt : ac.length < 60 := by
        have h1 := (adA_AB (d := d) hA hn).len h6
        rw [adA_none hl, List.length_append] at h1
        simp at h1; omega
      have s1 := ms_24 (M := M) (S := S) (u := u) (i := ac.length) (x := nI n) hlt
      have s2 := ms_26 (M := M) (S := S) (u := ua u 24 ac.length (nI n)) (i := ac.length) false hlt
      have s3 := mw_30 (M := M) (S := S) (u := ua (ua u 24 ac.length (nI n)) 26 ac.length (b2i false)) (x := nI (ac.length + 1))
      have s4 := ms_25 (M := M) (S := S) (u := ui (ua (ua u 24 ac.length (nI n)) 26 ac.length (b2i false)) 30 (nI (ac.length + 1))) (i := ac.length) (x := if d then 2 else 1) hlt
      simp only [prI_n, if_true, mI_30, mR_31, ob_s, h.1, s1, mR_33]
      rw [show (0 : Int32) = b2i false from rfl]
      simp only [s2, ob_s, mI_30, ua_1, h.1, nI_1, s3, mR_32, s4]
      refine ⟨_, rfl, Ag_tr (Ag_tr (Ag_tr (Ag_ua u _ _ (by decide)) (Ag_ua _ _ _ (by decide))) (Ag_ui _ _ (by decide))) (Ag_ua _ _ _ (by decide)), ?_⟩
      rw [adA_none hl]
      refine ⟨by simp [ua_1, ui_1], fun i a hi => ?_⟩
      rw [List.getElem?_append] at hi
      split at hi
      · next hlt2 =>
        have hne : ¬ i = ac.length := by omega
        simpa [ua_2, ui_2, hne] using h.2 i a hi
      · next hge =>
        have hi2 : i = ac.length := by
          have := (List.getElem?_eq_some_iff.mp hi).1
          simp at this; omega
        subst hi2
        simp at hi
        subst hi
        simp [ua_2, ui_2]
    | some i =>
      obtain ⟨hil, a, hia, hpa⟩ := lst_some hl
      have hpa : a.1 = n := by simpa using hpa
      have s1 := ms_25 (M := M) (S := S) (u := u) (i := i) (x := if d then 2 else 1) (show i < 60 by omega)
      simp only [prI_s, nI_e1 (show i < 2 ^ 31 by omega), if_false, mR_32, ob_s, s1]
      refine ⟨_, rfl, Ag_ua u _ _ (by decide), ?_⟩
      rw [adA_some hA hia hpa]
      refine ⟨by rw [List.length_set]; exact h.1, fun j b hj => ?_⟩
      rw [List.getElem?_set] at hj
      obtain ⟨a1, a2, a3⟩ := h.2 i a hia
      split at hj
      · next e =>
        subst e
        cases hj
        simp only [ua_2]
        simp [a1, a3, hpa]
      · next e =>
        have hne : ¬ j = i := fun z => e z.symm
        simpa [ua_2, hne] using h.2 j b hj
  unfold n_X3_adds
  have key : ∃ b, n_X3_adds_b5 FU (mput M S u) (some M) (nI n) (if d then 2 else 1) (prI (lst (fun a => a.1 == n) ac 0)) (nI 0) = some b ∧ Q b := by
    refine lp_ex (fun m k (_ : Unit) => n_X3_adds_b5 m (mput M S u) (some M) (nI n) (if d then 2 else 1) (prI (lst (fun a => a.1 == n) ac k)) (nI k)) (fun _ _ => True) Q ac.length ?_ ?_ FU 0 () (Nat.zero_le _) (by simp only [FU]; omega) trivial
    · intro m k _ hk _
      refine Or.inl ⟨(), trivial, ?_⟩
      have hk2 : ac[k]? = some ac[k] := List.getElem?_eq_getElem hk
      have hr := hA.2 _ (List.mem_of_getElem? hk2)
      simp only [n_X3_adds_b5, n_X3_adds_b31, mI_30, ob_s, h.1, nI_leE hz (show k < 2 ^ 31 by omega), mR_31, ma_24 (show k < 60 by omega), (h.2 k _ hk2).1, nI_eqE (show ac[k].1 < 2 ^ 31 by omega) (show n < 2 ^ 31 by omega), nI_1]
      rw [if_neg (by omega)]
      simp only [lst, hk2, beq_iff_eq]
      split <;> rfl
    · intro m _ _
      obtain ⟨v, h1, h2⟩ := hfin m
      exact ⟨_, h1, v, rfl, h2⟩
  obtain ⟨b, h1, v, rfl, h2⟩ := key
  exact ⟨v, h1, h2⟩
theorem q_looksAtLost (hf : RMf f u) (he : RMe f en u) (h : RMa ac u) (hA : AB f ac) (h6 : fMd f ≤ 60) : ∃ v, n_X3_looksAtLost (mput M S u) (some M) = some ((), mput M S v) ∧ Ag [30] [24, 25, 26] u v ∧ RMa (lkA en ac (fMd f)) v ∧ AB f (lkA en ac (fMd f)) := by
  have hz : fMd f < 2 ^ 31 := by omega
  unfold n_X3_looksAtLost
  have key := lp_ex (fun m k (v : MM) => n_X3_looksAtLost_b2 m (mput M S v) (some M) (nI k)) (fun k v => Ag [30] [24, 25, 26] u v ∧ RMa (lkA en ac k) v ∧ AB f (lkA en ac k)) (fun b => ∃ v, b = ((), mput M S v) ∧ Ag [30] [24, 25, 26] u v ∧ RMa (lkA en ac (fMd f)) v ∧ AB f (lkA en ac (fMd f))) (fMd f) ?_ ?_ FU 0 u (Nat.zero_le _) (by simp only [FU]; omega) ⟨Ag_rf _ _ u, h, hA⟩
  · obtain ⟨b, h1, v, rfl, h2⟩ := key
    exact ⟨v, h1, h2⟩
  · intro m k v hk ⟨g1, g2, g3⟩
    refine Or.inl ?_
    have hfv := hf.ag g1
    have hev := he.ag g1
    simp only [n_X3_looksAtLost_b2, n_X3_looksAtLost_b25, mI_2, ob_s, hfv.1, nI_leE hz (show k < 2 ^ 31 by omega), mR_22, ma_18 (show k < 60 by omega), (hev k (by omega)).1, b2i_0, mg_c, gd_t, nI_1]
    rw [if_neg (by omega)]
    simp only [lkA]
    cases hen : (en k).isSome with
    | false => exact ⟨v, ⟨g1, by simpa [hen] using g2, by simpa [hen] using g3⟩, by simp⟩
    | true =>
      obtain ⟨v2, e1, e2, e3⟩ := q_adds (M := M) (S := S) g2 g3 h6 hk false
      refine ⟨v2, ⟨Ag_tr g1 e2, by simpa [hen] using e3, by simpa [hen] using adA_AB g3 hk⟩, ?_⟩
      rw [if_neg (by decide)]
      have e1' : n_X3_adds (mput M S v) (some M) (nI k) 1 = some ((), mput M S v2) := e1
      rw [e1', bn_s]
  · intro m v ⟨g1, g2, g3⟩
    have hfv := hf.ag g1
    refine ⟨((), mput M S v), ?_, v, rfl, g1, g2, g3⟩
    simp only [n_X3_looksAtLost_b2, mI_2, ob_s, hfv.1, nI_leE hz hz, Nat.le_refl, if_true]
theorem q_takesAct (h : RMa ac u) (hl : ac.length ≤ 60) {i : Nat} (hi : i < ac.length) : ∃ v, n_X3_takesAct (mput M S u) (some M) (nI i) = some ((), mput M S v) ∧ Ag [30] [24, 25, 26] u v ∧ RMa (ac.eraseIdx i) v := by
  have hz : ac.length < 2 ^ 31 := by omega
  obtain ⟨n, hn⟩ : ∃ n, ac.length = n + 1 := ⟨ac.length - 1, by omega⟩
  have s1 := mw_30 (M := M) (S := S) (u := u) (x := nI n)
  simp only [n_X3_takesAct, mI_30, ob_s, h.1, hn, nI_pred, s1]
  have key := lp_ex (fun m k (v : MM) => n_X3_takesAct_b12 m (mput M S v) (some M) (nI (i + k))) (fun k v => Ag [30] [24, 25, 26] u v ∧ v.1 30 = nI n ∧ Sh 24 1 i (i + k) u v ∧ Sh 25 1 i (i + k) u v ∧ Sh 26 1 i (i + k) u v) (fun b => ∃ v, b = ((), mput M S v) ∧ Ag [30] [24, 25, 26] u v ∧ v.1 30 = nI n ∧ Sh 24 1 i n u v ∧ Sh 25 1 i n u v ∧ Sh 26 1 i n u v) (n - i) ?_ ?_ FU 0 (ui u 30 (nI n)) (Nat.zero_le _) (by simp only [FU]; omega) ⟨Ag_ui u _ (by decide), by simp [ui_1], Sh_rf 24 1 i u, Sh_rf 25 1 i u, Sh_rf 26 1 i u⟩
  · obtain ⟨b, h1, v, rfl, h2, h3, h4, h5, h6⟩ := key
    refine ⟨v, h1, h2, ?_, fun j a hj => ?_⟩
    · rw [h3, List.length_eraseIdx, if_pos hi, hn]; rfl
    · rw [List.getElem?_eraseIdx] at hj
      split at hj
      · next hji =>
        rw [Sh_lo h4 hji, Sh_lo h5 hji, Sh_lo h6 hji]; exact h.2 j a hj
      · next hji =>
        have := (List.getElem?_eq_some_iff.mp hj).1
        rw [Sh_mi h4 (by omega) (by omega), Sh_mi h5 (by omega) (by omega), Sh_mi h6 (by omega) (by omega)]
        exact h.2 (j + 1) a hj
  · intro m k v hk ⟨g1, g2, g3, g4, g5⟩
    refine Or.inl ⟨ua (ua (ua v 24 (i + k) (v.2 24 (i + k + 1))) 25 (i + k) (v.2 25 (i + k + 1))) 26 (i + k) (v.2 26 (i + k + 1)), ⟨Ag_tr (Ag_tr (Ag_tr g1 (Ag_ua _ _ _ (by decide))) (Ag_ua _ _ _ (by decide))) (Ag_ua _ _ _ (by decide)), g2, ?_, ?_, ?_⟩, ?_⟩
    · exact Sh_ot (Sh_ot (Sh_st (k := i + k) g3 (by omega) (by decide)) (by decide)) (by decide)
    · exact Sh_ot (Sh_st (k := i + k) (Sh_ot g4 (by decide)) (by omega) (by decide)) (by decide)
    · exact Sh_st (k := i + k) (Sh_ot (Sh_ot g5 (by decide)) (by decide)) (by omega) (by decide)
    · have hb : v.2 26 (i + k + 1) = b2i (ac[i + k + 1]'(by omega)).2.2 := by
        rw [Sh_hi g5 (by omega)]
        exact (h.2 (i + k + 1) _ (List.getElem?_eq_getElem (by omega))).2.2
      have t1 := ms_24 (M := M) (S := S) (u := v) (i := i + k) (x := v.2 24 (i + k + 1)) (by omega)
      have t2 := ms_25 (M := M) (S := S) (u := ua v 24 (i + k) (v.2 24 (i + k + 1))) (i := i + k) (x := v.2 25 (i + k + 1)) (by omega)
      have t3 := ms_26 (M := M) (S := S) (u := ua (ua v 24 (i + k) (v.2 24 (i + k + 1))) 25 (i + k) (v.2 25 (i + k + 1))) (i := i + k) (ac[i + k + 1]'(by omega)).2.2 (by omega)
      rw [← hb] at t3
      simp only [n_X3_takesAct_b12, mI_30, ob_s, g2, nI_leE (show n < 2 ^ 31 by omega) (show i + k < 2 ^ 31 by omega), mR_31, nI_1, ma_24 (show i + k + 1 < 60 by omega), t1, mR_32, ma_25 (show i + k + 1 < 60 by omega), ua_2, show ((25 : Nat) = 24) = False by decide, show ((26 : Nat) = 24) = False by decide, show ((26 : Nat) = 25) = False by decide, false_and, if_false, t2, mR_33, ma_26 (show i + k + 1 < 60 by omega), t3]
      rw [if_neg (by omega)]
      rfl
  · intro m v ⟨g1, g2, g3, g4, g5⟩
    have e : i + (n - i) = n := by omega
    rw [e] at g3 g4 g5
    refine ⟨((), mput M S v), ?_, v, rfl, g1, g2, g3, g4, g5⟩
    simp only [n_X3_takesAct_b12, mI_30, ob_s, g2, e, nI_leE (show n < 2 ^ 31 by omega) (show n < 2 ^ 31 by omega), Nat.le_refl, if_true]
end
