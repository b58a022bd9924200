/-! the reference's doings: roots that go and come -/
section
variable {β γ δ : Type}
/-- a loop that hands its state on -/
theorem lp_st (L : Nat → Nat → γ → β) (F : δ → β) (P : Nat → γ → Prop) (Q : δ → Prop) (n : Nat) (hs : ∀ m k c, k < n → P k c → ∃ c', P (k + 1) c' ∧ L (m + 1) k c = L m (k + 1) c') (he : ∀ m c, P n c → ∃ c', Q c' ∧ L (m + 1) n c = F c') : ∀ m k c, k ≤ n → n - k < m → P k c → ∃ c', Q c' ∧ L m k c = F c' := by
  intro m
  induction m with
  | zero => intro k c _ h _; omega
  | succ m ih =>
    intro k c hk hm hP
    by_cases h : k = n
    · subst h; exact he m c hP
    · obtain ⟨c', h1, h2⟩ := hs m k c (by omega) hP
      rw [h2]; exact ih (k + 1) c' (by omega) (by omega) h1
theorem lp_sd (L : Nat → Nat → γ → β) (F : δ → β) (P : Nat → γ → Prop) (Q : δ → Prop) (hs : ∀ m k c, P (k + 1) c → ∃ c', P k c' ∧ L (m + 1) (k + 1) c = L m k c') (he : ∀ m c, P 0 c → ∃ c', Q c' ∧ L (m + 1) 0 c = F c') : ∀ m k c, k < m → P k c → ∃ c', Q c' ∧ L m k c = F c' := by
  intro m
  induction m with
  | zero => intro k c h _; omega
  | succ m ih =>
    intro k c hk hP
    cases k with
    | zero => exact he m c hP
    | succ k =>
      obtain ⟨c', h1, h2⟩ := hs m k c hP
      rw [h2]; exact ih k c' (by omega) h1
end
section
variable {M : Nat} {S : St} {u v w : MM} {f : Fl} {rk : Nat → Nat} {rs : List RtV} {en : En} {ac : List AcV}
def DRp (n i k a b c : Nat) (u w : MM) : Prop := Ag [12] [9, 10, 11, 12, 13, 14, 15, 16, 17] u w ∧ w.1 12 = nI n ∧ Sh 9 1 i k u w ∧ Sh 10 1 i k u w ∧ Sh 13 1 i k u w ∧ Sh 14 1 i k u w ∧ Sh 15 1 i k u w ∧ Sh 11 8 (8 * i) a u w ∧ Sh 12 8 (8 * i) a u w ∧ Sh 16 60 (60 * i) b u w ∧ Sh 17 60 (60 * i) c u w
theorem q_drops3 (h : RMr rs u) (hl : rs.length ≤ 3) {n i k : Nat} (hn : rs.length = n + 1) (hik : i ≤ k) (hk : k < n) (K : St → Option Nat → Int32 → Option (Unit × St)) (hw : DRp n i (k + 1) (8 * (k + 1)) (60 * (k + 1)) (60 * k) u w) : ∃ v, DRp n i (k + 1) (8 * (k + 1)) (60 * (k + 1)) (60 * (k + 1)) u v ∧ n_X3_drops_b192 K FU (mput M S w) (some M) (nI k) (nI 0) = K (mput M S v) (some M) (nI (k + 1)) := by
  refine lp_st (fun m q (w : MM) => n_X3_drops_b192 K m (mput M S w) (some M) (nI k) (nI q)) (fun v => K (mput M S v) (some M) (nI (k + 1))) (fun q w => DRp n i (k + 1) (8 * (k + 1)) (60 * (k + 1)) (60 * k + q) u w) _ 60 ?_ ?_ FU 0 w (by omega) (by simp only [FU]; omega) hw
  · intro m q w hq ⟨g1, g2, g3, g4, g5, g6, g7, g8, g9, g10, g11⟩
    have hb := ((h.2 (k + 1) _ (List.getElem?_eq_getElem (by omega))).2.2.2.2.2.2 q hq)
    have hv : w.2 17 (60 * k + q + 60) = b2i (tb (rs[k + 1]'(by omega)).2.2.2.2 q) := by
      rw [Sh_hi g11 (by omega), ← hb, show 60 * k + q + 60 = 60 * (k + 1) + q by omega]
    have t1 := ms_17 (M := M) (S := S) (u := w) (i := 60 * k + q) (tb (rs[k + 1]'(by omega)).2.2.2.2 q) (by omega)
    rw [← hv] at t1
    refine ⟨ua w 17 (60 * k + q) (w.2 17 (60 * k + q + 60)), ⟨Ag_tr g1 (Ag_ua _ _ _ (by decide)), g2, Sh_ot g3 (by decide), Sh_ot g4 (by decide), Sh_ot g5 (by decide), Sh_ot g6 (by decide), Sh_ot g7 (by decide), Sh_ot g8 (by decide), Sh_ot g9 (by decide), Sh_ot g10 (by decide), Sh_st (k := 60 * k + q) g11 (by omega) (by decide)⟩, ?_⟩
    simp only [n_X3_drops_b192, li_60, nI_leE (show 60 < 2 ^ 31 by decide) (show q < 2 ^ 31 by omega), mR_21, ob_s, nI_1, nI_mul, nI_add, ma_17 (show 60 * (k + 1) + q < 240 by omega)]
    rw [if_neg (by omega), show 60 * (k + 1) + q = 60 * k + q + 60 by omega, t1]
    rfl
  · intro m w hw
    refine ⟨w, hw, ?_⟩
    simp only [n_X3_drops_b192, li_60, nI_leE (show 60 < 2 ^ 31 by decide) (show 60 < 2 ^ 31 by decide), Nat.le_refl, if_true, nI_1]
theorem q_drops2 (h : RMr rs u) (hl : rs.length ≤ 3) {n i k : Nat} (hn : rs.length = n + 1) (hik : i ≤ k) (hk : k < n) (K : St → Option Nat → Int32 → Option (Unit × St)) (hw : DRp n i (k + 1) (8 * (k + 1)) (60 * k) (60 * k) u w) : ∃ v, DRp n i (k + 1) (8 * (k + 1)) (60 * (k + 1)) (60 * (k + 1)) u v ∧ n_X3_drops_b154 K FU (mput M S w) (some M) (nI k) (nI 0) = K (mput M S v) (some M) (nI (k + 1)) := by
  refine lp_st (fun m q (w : MM) => n_X3_drops_b154 K m (mput M S w) (some M) (nI k) (nI q)) (fun v => K (mput M S v) (some M) (nI (k + 1))) (fun q w => DRp n i (k + 1) (8 * (k + 1)) (60 * k + q) (60 * k) u w) _ 60 ?_ ?_ FU 0 w (by omega) (by simp only [FU]; omega) hw
  · intro m q w hq ⟨g1, g2, g3, g4, g5, g6, g7, g8, g9, g10, g11⟩
    have t1 := ms_16 (M := M) (S := S) (u := w) (i := 60 * k + q) (x := w.2 16 (60 * k + q + 60)) (by omega)
    refine ⟨ua w 16 (60 * k + q) (w.2 16 (60 * k + q + 60)), ⟨Ag_tr g1 (Ag_ua _ _ _ (by decide)), g2, Sh_ot g3 (by decide), Sh_ot g4 (by decide), Sh_ot g5 (by decide), Sh_ot g6 (by decide), Sh_ot g7 (by decide), Sh_ot g8 (by decide), Sh_ot g9 (by decide), Sh_st (k := 60 * k + q) g10 (by omega) (by decide), Sh_ot g11 (by decide)⟩, ?_⟩
    simp only [n_X3_drops_b154, li_60, nI_leE (show 60 < 2 ^ 31 by decide) (show q < 2 ^ 31 by omega), mR_20, ob_s, nI_1, nI_mul, nI_add, ma_16 (show 60 * (k + 1) + q < 240 by omega)]
    rw [if_neg (by omega), show 60 * (k + 1) + q = 60 * k + q + 60 by omega, t1]
    rfl
  · intro m w hw
    obtain ⟨v, h1, h2⟩ := q_drops3 (M := M) (S := S) h hl hn hik hk K hw
    refine ⟨v, h1, ?_⟩
    simp only [n_X3_drops_b154, li_60, nI_leE (show 60 < 2 ^ 31 by decide) (show 60 < 2 ^ 31 by decide), Nat.le_refl, if_true]
    exact h2
theorem q_drops1 (h : RMr rs u) (hl : rs.length ≤ 3) {n i k : Nat} (hn : rs.length = n + 1) (hik : i ≤ k) (hk : k < n) (K : St → Option Nat → Int32 → Option (Unit × St)) (hw : DRp n i (k + 1) (8 * k) (60 * k) (60 * k) u w) : ∃ v, DRp n i (k + 1) (8 * (k + 1)) (60 * (k + 1)) (60 * (k + 1)) u v ∧ n_X3_drops_b92 K FU (mput M S w) (some M) (nI k) (nI 0) = K (mput M S v) (some M) (nI (k + 1)) := by
  refine lp_st (fun m q (w : MM) => n_X3_drops_b92 K m (mput M S w) (some M) (nI k) (nI q)) (fun v => K (mput M S v) (some M) (nI (k + 1))) (fun q w => DRp n i (k + 1) (8 * k + q) (60 * k) (60 * k) u w) _ 8 ?_ ?_ FU 0 w (by omega) (by simp only [FU]; omega) hw
  · intro m q w hq ⟨g1, g2, g3, g4, g5, g6, g7, g8, g9, g10, g11⟩
    have t1 := ms_11 (M := M) (S := S) (u := w) (i := 8 * k + q) (x := w.2 11 (8 * k + q + 8)) (by omega)
    have t2 := ms_12 (M := M) (S := S) (u := ua w 11 (8 * k + q) (w.2 11 (8 * k + q + 8))) (i := 8 * k + q) (x := w.2 12 (8 * k + q + 8)) (by omega)
    refine ⟨ua (ua w 11 (8 * k + q) (w.2 11 (8 * k + q + 8))) 12 (8 * k + q) (w.2 12 (8 * k + q + 8)), ⟨Ag_tr (Ag_tr g1 (Ag_ua _ _ _ (by decide))) (Ag_ua _ _ _ (by decide)), g2, Sh_ot (Sh_ot g3 (by decide)) (by decide), Sh_ot (Sh_ot g4 (by decide)) (by decide), Sh_ot (Sh_ot g5 (by decide)) (by decide), Sh_ot (Sh_ot g6 (by decide)) (by decide), Sh_ot (Sh_ot g7 (by decide)) (by decide), Sh_ot (Sh_st (k := 8 * k + q) g8 (by omega) (by decide)) (by decide), Sh_st (k := 8 * k + q) (Sh_ot g9 (by decide)) (by omega) (by decide), Sh_ot (Sh_ot g10 (by decide)) (by decide), Sh_ot (Sh_ot g11 (by decide)) (by decide)⟩, ?_⟩
    simp only [n_X3_drops_b92, li_8, nI_leE (show 8 < 2 ^ 31 by decide) (show q < 2 ^ 31 by omega), mR_15, mR_16, ob_s, nI_1, nI_mul, nI_add, ma_11 (show 8 * (k + 1) + q < 32 by omega)]
    rw [if_neg (by omega), show 8 * (k + 1) + q = 8 * k + q + 8 by omega, t1]
    simp only [ob_s, mR_16, ma_12 (show 8 * k + q + 8 < 32 by omega), ua_2]
    simp only [show ((12 : Nat) = 11) = False by decide, false_and, if_false, t2, ob_s]
  · intro m w hw
    obtain ⟨v, h1, h2⟩ := q_drops2 (M := M) (S := S) h hl hn hik hk K hw
    refine ⟨v, h1, ?_⟩
    simp only [n_X3_drops_b92, li_8, nI_leE (show 8 < 2 ^ 31 by decide) (show 8 < 2 ^ 31 by decide), Nat.le_refl, if_true]
    exact h2
theorem q_drops (h : RMr rs u) (hT : RT f rs) (h6 : fMd f ≤ 60) {i : Nat} (hi : i < rs.length) : ∃ v, n_X3_drops (mput M S u) (some M) (nI i) = some ((), mput M S v) ∧ Ag [12] [9, 10, 11, 12, 13, 14, 15, 16, 17] u v ∧ RMr (rs.eraseIdx i) v := by
  have hl := hT.1
  obtain ⟨n, hn⟩ : ∃ n, rs.length = n + 1 := ⟨rs.length - 1, by omega⟩
  have s1 := mw_12 (M := M) (S := S) (u := u) (x := nI n)
  simp only [n_X3_drops, mI_12, ob_s, h.1, hn, nI_pred, s1]
  have key := lp_st (fun m k (v : MM) => n_X3_drops_b12 m (mput M S v) (some M) (nI (i + k))) (fun v => some ((), mput M S v)) (fun k v => DRp n i (i + k) (8 * (i + k)) (60 * (i + k)) (60 * (i + k)) u v) (fun v => DRp n i n (8 * n) (60 * n) (60 * n) u v) (n - i) ?_ ?_ FU 0 (ui u 12 (nI n)) (Nat.zero_le _) (by simp only [FU]; omega) ⟨Ag_ui u _ (by decide), by simp [ui_1], Sh_rf 9 1 i u, Sh_rf 10 1 i u, Sh_rf 13 1 i u, Sh_rf 14 1 i u, Sh_rf 15 1 i u, Sh_rf 11 8 (8 * i) u, Sh_rf 12 8 (8 * i) u, Sh_rf 16 60 (60 * i) u, Sh_rf 17 60 (60 * i) u⟩
  · obtain ⟨v, ⟨g1, g2, g3, g4, g5, g6, g7, g8, g9, g10, g11⟩, h1⟩ := key
    simp only [Nat.add_zero] at h1
    refine ⟨v, h1, g1, ?_, fun j r hj => ?_⟩
    · rw [g2, List.length_eraseIdx, if_pos hi, hn]; rfl
    · rw [List.getElem?_eraseIdx] at hj
      split at hj
      · next hji =>
        have hB := hT.2 r (List.mem_of_getElem? hj)
        refine RRt_loc (h.2 j r hj) hB.2.1 (fun l hl => hB.cl h6 hl) ?_ ?_ ?_
        · intro p hp
          simp only [List.mem_cons, List.not_mem_nil, or_false] at hp
          rcases hp with rfl | rfl | rfl | rfl | rfl
          · exact Sh_lo g3 hji
          · exact Sh_lo g4 hji
          · exact Sh_lo g5 hji
          · exact Sh_lo g6 hji
          · exact Sh_lo g7 hji
        · intro p hp q hq
          simp only [List.mem_cons, List.not_mem_nil, or_false] at hp
          rcases hp with rfl | rfl
          · exact Sh_lo g8 (by omega)
          · exact Sh_lo g9 (by omega)
        · intro p hp q hq
          simp only [List.mem_cons, List.not_mem_nil, or_false] at hp
          rcases hp with rfl | rfl
          · exact Sh_lo g10 (by omega)
          · exact Sh_lo g11 (by omega)
      · next hji =>
        have hjl := (List.getElem?_eq_some_iff.mp hj).1
        have hB := hT.2 r (List.mem_of_getElem? hj)
        obtain ⟨r1, r2, r3, r4, r5, r6', r7⟩ := h.2 (j + 1) r hj
        refine ⟨(Sh_mi g3 (by omega) (by omega)).trans r1, (Sh_mi g4 (by omega) (by omega)).trans r2, fun q p hp => ?_, (Sh_mi g5 (by omega) (by omega)).trans r4, (Sh_mi g6 (by omega) (by omega)).trans r5, fun l hl => ⟨(Sh_mi g7 (by omega) (by omega)).trans (r6' l hl).1, fun q x hx => ?_⟩, fun x hx => ?_⟩
        · have hq := (List.getElem?_eq_some_iff.mp hp).1
          have h8 := hB.2.1
          rw [Sh_mi g8 (by omega) (by omega), Sh_mi g9 (by omega) (by omega), show 8 * j + q + 8 = 8 * (j + 1) + q by omega]
          exact r3 q p hp
        · have hq := (List.getElem?_eq_some_iff.mp hx).1
          have h8 := hB.cl h6 hl
          rw [Sh_mi g10 (by omega) (by omega), show 60 * j + q + 60 = 60 * (j + 1) + q by omega]
          exact (r6' l hl).2 q x hx
        · rw [Sh_mi g11 (by omega) (by omega), show 60 * j + x + 60 = 60 * (j + 1) + x by omega]
          exact r7 x hx
  · intro m k v hk ⟨g1, g2, g3, g4, g5, g6, g7, g8, g9, g10, g11⟩
    obtain ⟨-, -, -, r4, r5, -, -⟩ := h.2 (i + k + 1) _ (List.getElem?_eq_getElem (by omega))
    have hb1 : v.2 13 (i + k + 1) = b2i (rs[i + k + 1]'(by omega)).2.2.1 := by rw [Sh_hi g5 (by omega)]; exact r4
    have hb2 : v.2 14 (i + k + 1) = b2i (rs[i + k + 1]'(by omega)).2.2.2.1.isSome := by rw [Sh_hi g6 (by omega)]; exact r5
    let v1 := ua v 9 (i + k) (v.2 9 (i + k + 1))
    let v2 := ua v1 10 (i + k) (v.2 10 (i + k + 1))
    let v3 := ua v2 13 (i + k) (v.2 13 (i + k + 1))
    let v4 := ua v3 14 (i + k) (v.2 14 (i + k + 1))
    let v5 := ua v4 15 (i + k) (v.2 15 (i + k + 1))
    have t1 := ms_9 (M := M) (S := S) (u := v) (i := i + k) (x := v.2 9 (i + k + 1)) (by omega)
    have t2 := ms_10 (M := M) (S := S) (u := v1) (i := i + k) (x := v.2 10 (i + k + 1)) (by omega)
    have t3 := ms_13 (M := M) (S := S) (u := v2) (i := i + k) (rs[i + k + 1]'(by omega)).2.2.1 (by omega)
    have t4 := ms_14 (M := M) (S := S) (u := v3) (i := i + k) (rs[i + k + 1]'(by omega)).2.2.2.1.isSome (by omega)
    have t5 := ms_15 (M := M) (S := S) (u := v4) (i := i + k) (x := v.2 15 (i + k + 1)) (by omega)
    rw [← hb1] at t3
    rw [← hb2] at t4
    have e10 : v1.2 10 = v.2 10 := rfl
    have D5 : DRp n i (i + k + 1) (8 * (i + k)) (60 * (i + k)) (60 * (i + k)) u v5 := ⟨Ag_tr (Ag_tr (Ag_tr (Ag_tr (Ag_tr g1 (Ag_ua _ _ _ (by decide))) (Ag_ua _ _ _ (by decide))) (Ag_ua _ _ _ (by decide))) (Ag_ua _ _ _ (by decide))) (Ag_ua _ _ _ (by decide)), g2, Sh_ot (Sh_ot (Sh_ot (Sh_ot (Sh_st (k := i + k) g3 (by omega) (by decide)) (by decide)) (by decide)) (by decide)) (by decide), Sh_ot (Sh_ot (Sh_ot (Sh_st (k := i + k) (Sh_ot g4 (by decide)) (by omega) (by decide)) (by decide)) (by decide)) (by decide), Sh_ot (Sh_ot (Sh_st (k := i + k) (Sh_ot (Sh_ot g5 (by decide)) (by decide)) (by omega) (by decide)) (by decide)) (by decide), Sh_ot (Sh_st (k := i + k) (Sh_ot (Sh_ot (Sh_ot g6 (by decide)) (by decide)) (by decide)) (by omega) (by decide)) (by decide), Sh_st (k := i + k) (Sh_ot (Sh_ot (Sh_ot (Sh_ot g7 (by decide)) (by decide)) (by decide)) (by decide)) (by omega) (by decide), Sh_ot (Sh_ot (Sh_ot (Sh_ot (Sh_ot g8 (by decide)) (by decide)) (by decide)) (by decide)) (by decide), Sh_ot (Sh_ot (Sh_ot (Sh_ot (Sh_ot g9 (by decide)) (by decide)) (by decide)) (by decide)) (by decide), Sh_ot (Sh_ot (Sh_ot (Sh_ot (Sh_ot g10 (by decide)) (by decide)) (by decide)) (by decide)) (by decide), Sh_ot (Sh_ot (Sh_ot (Sh_ot (Sh_ot g11 (by decide)) (by decide)) (by decide)) (by decide)) (by decide)⟩
    obtain ⟨v6, h1, h2⟩ := q_drops1 (M := M) (S := S) h hl hn (by omega) (show i + k < n by omega) (n_X3_drops_b12 m) D5
    refine ⟨v6, h1, ?_⟩
    show _ = n_X3_drops_b12 m (mput M S v6) (some M) (nI (i + k + 1))
    rw [nI_0] at h2
    rw [← h2]
    have i4 : i + k + 1 < 4 := by omega
    simp only [n_X3_drops_b12, mI_12, ob_s, g2, nI_leE (show n < 2 ^ 31 by omega) (show i + k < 2 ^ 31 by omega), mR_13, nI_1, ma_9 i4]
    rw [if_neg (by omega), t1]
    simp only [ob_s, mR_14, ma_10 i4]
    rw [show (ua v 9 (i + k) (v.2 9 (i + k + 1))).2 10 (i + k + 1) = v.2 10 (i + k + 1) by simp [ua_2], t2]
    simp only [ob_s, mR_17, ma_13 i4]
    rw [show v2.2 13 (i + k + 1) = v.2 13 (i + k + 1) by simp [v2, v1, ua_2], show ua v1 10 (i + k) (v.2 10 (i + k + 1)) = v2 from rfl, t3]
    simp only [ob_s, mR_18, ma_14 i4]
    rw [show (ua v2 13 (i + k) (v.2 13 (i + k + 1))).2 14 (i + k + 1) = v.2 14 (i + k + 1) by simp [v2, v1, ua_2], t4]
    simp only [ob_s, mR_19, ma_15 i4]
    rw [show (ua v3 14 (i + k) (v.2 14 (i + k + 1))).2 15 (i + k + 1) = v.2 15 (i + k + 1) by simp [v3, v2, v1, ua_2], t5, ob_s]
  · intro m v hw
    have e : i + (n - i) = n := by omega
    rw [e] at hw
    refine ⟨v, hw, ?_⟩
    simp only [n_X3_drops_b12, mI_12, ob_s, hw.2.1, e, nI_leE (show n < 2 ^ 31 by omega) (show n < 2 ^ 31 by omega), Nat.le_refl, if_true]
theorem RMr_setX {i : Nat} {r' : RtV} (h : u.1 12 = nI rs.length) (hi : i < rs.length) (g1 : v.1 12 = u.1 12) (g2 : ∀ j r, j ≠ i → rs[j]? = some r → RRt r j v) (g3 : RRt r' i v) : RMr (rs.set i r') v := by
  refine ⟨by rw [g1, h, List.length_set], fun j r hj => ?_⟩
  rw [List.getElem?_set] at hj
  split at hj
  · next e =>
    subst e
    cases hj; exact g3
  · next e => exact g2 j r (fun z => e z.symm) hj
theorem q_beginsCrawl_g (h0 : u.1 12 = nI rs.length) (hT : RT f rs) (h6 : fMd f ≤ 60) {i : Nat} {r : RtV} (hi : rs[i]? = some r) (hoth : ∀ j r0, j ≠ i → rs[j]? = some r0 → RRt r0 j u) (r1 : u.2 9 i = nI r.1) (r2 : u.2 10 i = nI r.2.1.length) (r3 : ∀ q p, r.2.1[q]? = some p → u.2 11 (8 * i + q) = nI p.1 ∧ u.2 12 (8 * i + q) = nI p.2) (r4 : u.2 13 i = b2i r.2.2.1) : ∃ v, n_X3_beginsCrawl (mput M S u) (some M) (nI i) = some ((), mput M S v) ∧ Ag [] [14, 15, 16, 17] u v ∧ RMr (rs.set i (begR r)) v := by
  have hil : i < rs.length := (List.getElem?_eq_some_iff.mp hi).1
  have hl := hT.1
  have i4 : i < 4 := by omega
  obtain ⟨v1, z1⟩ : ∃ x, x = ua u 14 i (b2i true) := ⟨_, rfl⟩
  obtain ⟨v2, z2⟩ : ∃ x, x = ua v1 15 i (b2i true) := ⟨_, rfl⟩
  obtain ⟨v3, z3⟩ : ∃ x, x = ua v2 16 (60 * i) (nI r.1) := ⟨_, rfl⟩
  have t1 := ms_14 (M := M) (S := S) (u := u) true i4
  have t2 := ms_15 (M := M) (S := S) (u := v1) (x := b2i true) i4
  have t3 := ms_16 (M := M) (S := S) (u := v2) (i := 60 * i) (x := nI r.1) (by omega)
  rw [← z1] at t1
  rw [← z2] at t2
  rw [← z3] at t3
  have key := lp_st (fun m k (v : MM) => n_X3_beginsCrawl_b31 m (mput M S v) (some M) (nI i) (nI k)) (fun v => some ((), mput M S v)) (fun k v => Ag [] [17] v3 v ∧ ∀ j, v.2 17 j = if 60 * i ≤ j ∧ j < 60 * i + k then 0 else u.2 17 j) (fun v => Ag [] [17] v3 v ∧ ∀ j, v.2 17 j = if 60 * i ≤ j ∧ j < 60 * i + 60 then 0 else u.2 17 j) 60 ?_ ?_ FU 0 v3 (Nat.zero_le _) (by simp only [FU]; omega) ⟨Ag_rf _ _ _, fun j => by rw [if_neg (by omega), z3, z2, z1]; simp [ua_2]⟩
  · obtain ⟨v, ⟨g1, g2⟩, h1⟩ := key
    rw [nI_0] at h1
    have ag : Ag [] [14, 15, 16, 17] u v := by
      refine Ag_tr ?_ (Ag_up g1 (by decide) (by decide))
      rw [z3, z2, z1]
      exact Ag_tr (Ag_tr (Ag_ua u _ _ (by decide)) (Ag_ua _ _ _ (by decide))) (Ag_ua _ _ _ (by decide))
    refine ⟨v, ?_, ag, RMr_setX h0 hil (ag.1 12 (by decide)) (fun j r0 hj hr0 => ?_) ?_⟩
    · simp only [n_X3_beginsCrawl, mR_18, ob_s]
      rw [show (1 : Int32) = b2i true from rfl, t1]
      simp only [ob_s, mR_19, t2, mR_20, mR_13, ma_9 i4]
      rw [show v2.2 9 i = u.2 9 i by rw [z2, z1]; simp [ua_2], r1, li_60, nI_mul, t3, ob_s]
      exact h1
    · have hB0 := hT.2 r0 (List.mem_of_getElem? hr0)
      have hR := hoth j r0 hj hr0
      have hjl := (List.getElem?_eq_some_iff.mp hr0).1
      refine RRt_loc hR hB0.2.1 (fun l hl => hB0.cl h6 hl) ?_ ?_ ?_
      · intro p hp
        simp only [List.mem_cons, List.not_mem_nil, or_false] at hp
        rcases hp with rfl | rfl | rfl | rfl | rfl
        · rw [ag.2 9 (by decide)]
        · rw [ag.2 10 (by decide)]
        · rw [ag.2 13 (by decide)]
        · rw [g1.2 14 (by decide)]; simp [z3, z2, z1, ua_2, hj]
        · rw [g1.2 15 (by decide)]; simp [z3, z2, z1, ua_2, hj]
      · intro p hp q hq
        simp only [List.mem_cons, List.not_mem_nil, or_false] at hp
        rcases hp with rfl | rfl
        · rw [ag.2 11 (by decide)]
        · rw [ag.2 12 (by decide)]
      · intro p hp q hq
        simp only [List.mem_cons, List.not_mem_nil, or_false] at hp
        rcases hp with rfl | rfl
        · have hne : ¬ 60 * j + q = 60 * i := by omega
          rw [g1.2 16 (by decide)]; simp [z3, z2, z1, ua_2, hne]
        · rw [g2, if_neg (by omega)]
    · refine ⟨?_, ?_, fun q p hp => ?_, ?_, ?_, fun l hl => ?_, fun n hn => ?_⟩
      · rw [ag.2 9 (by decide)]; exact r1
      · rw [ag.2 10 (by decide)]; exact r2
      · rw [ag.2 11 (by decide), ag.2 12 (by decide)]; exact r3 q p hp
      · rw [ag.2 13 (by decide)]; exact r4
      · rw [g1.2 14 (by decide)]; simp [z3, z2, z1, ua_2, begR]
      · simp only [begR, Option.some.injEq] at hl
        subst hl
        refine ⟨by rw [g1.2 15 (by decide)]; simp [z3, z2, z1, ua_2]; rfl, fun q n hn => ?_⟩
        have hq : q = 0 := by
          have := (List.getElem?_eq_some_iff.mp hn).1
          simp at this; omega
        subst hq
        simp at hn
        subst hn
        rw [g1.2 16 (by decide)]; simp [z3, z2, z1, ua_2]
      · rw [g2, if_pos (by omega)]
        simp [begR, tb, b2i]
  · intro m k v hk ⟨g1, g2⟩
    refine ⟨ua v 17 (60 * i + k) (b2i false), ⟨Ag_tr g1 (Ag_ua _ _ _ (by decide)), fun j => ?_⟩, ?_⟩
    · rw [ua_2, g2 j]
      by_cases e : j = 60 * i + k
      · subst e; rw [if_pos ⟨rfl, rfl⟩, if_pos (by omega)]; rfl
      · rw [if_neg (by simp [e])]
        by_cases c : 60 * i ≤ j ∧ j < 60 * i + k
        · rw [if_pos c, if_pos (by omega)]
        · rw [if_neg c, if_neg (by omega)]
    · have t := ms_17 (M := M) (S := S) (u := v) (i := 60 * i + k) false (by omega)
      simp only [n_X3_beginsCrawl_b31, li_60, nI_leE (show 60 < 2 ^ 31 by decide) (show k < 2 ^ 31 by omega), mR_21, ob_s, nI_1, nI_mul, nI_add]
      rw [if_neg (by omega), show (0 : Int32) = b2i false from rfl, t]
      rfl
  · intro m v hw
    refine ⟨v, hw, ?_⟩
    simp only [n_X3_beginsCrawl_b31, li_60, nI_leE (show 60 < 2 ^ 31 by decide) (show 60 < 2 ^ 31 by decide), Nat.le_refl, if_true]
theorem q_beginsCrawl (h : RMr rs u) (hT : RT f rs) (h6 : fMd f ≤ 60) {i : Nat} {r : RtV} (hi : rs[i]? = some r) : ∃ v, n_X3_beginsCrawl (mput M S u) (some M) (nI i) = some ((), mput M S v) ∧ Ag [] [14, 15, 16, 17] u v ∧ RMr (rs.set i (begR r)) v := by
  obtain ⟨r1, r2, r3, r4, -⟩ := h.2 i r hi
  exact q_beginsCrawl_g h.1 hT h6 hi (fun j r0 _ hr0 => h.2 j r0 hr0) r1 r2 r3 r4
end
