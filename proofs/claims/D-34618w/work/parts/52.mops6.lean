/-! the reference's calls: notices, numbers -/
section
variable {M : Nat} {S : St} {u v w : MM} {f f' : Fl} {rs rs' : List RtV} {en : En} {ac : List AcV} {s : Sg} {rk rk' : Nat → Nat}
theorem RO_same (h : RA s u) (c : Int32) : RO (0, c, s) c (ui u 0 0) := RO_ok (h.th 0) rfl
theorem q_notices (h : RA s u) (h6 : fMd (zF s) ≤ 60) (hT : RT (zF s) (zR s)) (hN : RN (zF s) (zR s)) (x : Int32) : ∃ v b, n_X3_notices (mput M S u) (some M) x = some (b, mput M S v) ∧ RO (opNotices s x) b v := by
  have hh := h
  obtain ⟨⟨hf, hr, he, ha, hs, hw, hnn⟩, hz⟩ := h
  have e1 : n_X3_notices_b23 (mput M S u) (some M) (-1) = some (0, mput M S (ui u 0 1)) := by
    simp only [n_X3_notices_b23, n_X3_notices_b35, mw_0, ob_s, mI_0, ui_1, if_true, i_nle0_1, if_false, rt_i, id]
  simp only [n_X3_notices, mI_2, ob_s, hf.1, q_in, bn_s, b2i_0, mg_c, gd_t, q_rootAtX hr hT.toS h6]
  have key : (inI x 0 (nI (fMd (zF s)) - 1) = false → rtA (zR s) x = none) := by
    intro hi
    refine List.find?_eq_none.mpr fun r hr => ?_
    have hb := (hT.2 r hr).1
    simp only [beq_iff_eq]
    rintro rfl
    rcases inI_cases h6 (nI r.1) with ⟨k, -, -, h2⟩ | ⟨-, h2⟩
    · rw [hi] at h2; cases h2
    · exact h2 ⟨nI_pos (by omega), by rw [nI_clamp (by omega)]; exact hb⟩
  cases hi : inI x 0 (nI (fMd (zF s)) - 1) with
  | false =>
    refine ⟨ui u 0 1, 0, by simp [e1], ?_⟩
    simp only [opNotices, key hi]; exact RO_fail hh 1 0 (by decide)
  | true =>
    cases hl : lst (fun r : RtV => nI r.1 == x) (zR s) (zR s).length with
    | none =>
      refine ⟨ui u 0 1, 0, by simp [prI_n, e1], ?_⟩
      simp only [opNotices, rtA_none hl]; exact RO_fail hh 1 0 (by decide)
    | some i =>
      obtain ⟨r, hri, hra, -⟩ := rtA_some hT hN h6 hl
      have hil := (List.getElem?_eq_some_iff.mp hri).1
      have h3 := hT.1
      obtain ⟨-, r2, -, r4, -⟩ := hr.2 i r hri
      refine ⟨ui u 0 0, notR r, ?_, by simp only [opNotices, hra]; exact RO_same hh _⟩
      simp only [Bool.true_eq_false, if_false, prI_s, n_X3_notices_b23, nI_e1 (show i < 2 ^ 31 by omega), n_X3_notices_b35, mw_0, ob_s, mI_0, ui_1, if_true, i_le00, mR_17, ma_13 (show i < 4 by omega), mR_14, ma_10 (show i < 4 by omega), ui_2, r2, r4, b2i_0, rt_i, id]
      unfold notR
      cases r.2.2.1 <;> simp
theorem getLast_idx {l : List (Nat × Nat)} {p : Nat × Nat} (h : l.getLast? = some p) : l[l.length - 1]? = some p := by
  rw [List.getLast?_eq_getElem?] at h; exact h
theorem q_twice (h : RA s u) (h6 : fMd (zF s) ≤ 60) (hT : RT (zF s) (zR s)) (hN : RN (zF s) (zR s)) (x : Int32) : ∃ v b, n_X3_twice (mput M S u) (some M) x = some (b, mput M S v) ∧ RO (opTwice s x) b v := by
  have hh := h
  obtain ⟨⟨hf, hr, he, ha, hs, hw, hnn⟩, hz⟩ := h
  simp only [n_X3_twice, mg_c, gd_t, q_rootAtX hr hT.toS h6, bn_s]
  cases hl : lst (fun r : RtV => nI r.1 == x) (zR s) (zR s).length with
  | none =>
    refine ⟨ui u 0 1, 0, ?_, by simp only [opTwice, rtA_none hl]; exact RO_fail hh 1 0 (by decide)⟩
    simp only [prI_n, if_true, n_X3_twice_b30, mw_0, ob_s, mI_0, ui_1, i_nle0_1, if_false, rt_i, id]
  | some i =>
    obtain ⟨r, hri, hra, -⟩ := rtA_some hT hN h6 hl
    have hil := (List.getElem?_eq_some_iff.mp hri).1
    have h3 := hT.1
    have i4 : i < 4 := by omega
    have hB := hT.2 r (List.mem_of_getElem? hri)
    have h8 := hB.2.1
    obtain ⟨r1, r2, r3, r4, -⟩ := hr.2 i r hri
    simp only [prI_s, nI_e1 (show i < 2 ^ 31 by omega), if_false, mR_14, ob_s, ma_10 i4, r2, nI_eq0 (show r.2.1.length < 2 ^ 31 by omega)]
    simp only [opTwice, hra]
    cases hg : r.2.1.getLast? with
    | none =>
      have : r.2.1.length = 0 := by
        have := List.getLast?_eq_none_iff.mp hg
        simp [this]
      refine ⟨ui u 0 2, 0, ?_, RO_fail hh 2 0 (by decide)⟩
      simp only [this, if_true, n_X3_twice_b30, mw_0, ob_s, mI_0, ui_1, i_nle0_2, if_false, rt_i, id]
    | some p =>
      have hp := getLast_idx hg
      have hlen : 0 < r.2.1.length := by
        have := (List.getElem?_eq_some_iff.mp hp).1
        omega
      obtain ⟨p1, p2⟩ := r3 _ p hp
      have hpb := hB.2.2.1 p (List.mem_of_getElem? hp)
      obtain ⟨v0, z0⟩ : ∃ x, x = ui u 0 0 := ⟨_, rfl⟩
      have t0 := mw_0 (M := M) (S := S) (u := u) (x := 0)
      rw [← z0] at t0
      have hag0 : Ag [0] [] u v0 := by rw [z0]; exact Ag_ui u _ (by decide)
      obtain ⟨v1, g1, g2, g3⟩ := q_comes (M := M) (S := S) (hr.ag hag0) hT h6 hri (kd := p.1) (n := p.2)
      have hri' : ((zR s).set i (telR p.1 p.2 r))[i]? = some (telR p.1 p.2 r) := by simp [hil]
      obtain ⟨-, w2, -, w4, -⟩ := g3.2 i _ hri'
      refine ⟨v1, notR (telR p.1 p.2 r), ?_, RO_ok ⟨⟨(hf.ag hag0).ag g2, ?_, (he.ag hag0).ag g2, (ha.ag hag0).ag g2, (hs.ag hag0).ag g2, (hw.ag hag0).ag g2, (hnn.ag hag0).ag g2⟩, (hz.ag hag0).ag g2⟩ ?_⟩
      · rw [if_neg (by omega)]
        simp only [n_X3_twice_b30, t0, ob_s, mI_0]
        rw [show v0.1 0 = 0 by rw [z0, ui_1, if_pos rfl], if_pos i_le00]
        simp only [mR_15, mR_14, mR_16, ob_s, ma_10 i4]
        rw [show v0.2 10 i = nI r.2.1.length by rw [hag0.2 10 (by decide)]; exact r2]
        have e8 : (8 : Int32) * nI i + nI r.2.1.length - 1 = nI (8 * i + (r.2.1.length - 1)) := by
          rw [li_8, li_1, nI_mul, nI_add, nI_subI (by omega)]; congr 1; omega
        rw [e8, ma_11 (show 8 * i + (r.2.1.length - 1) < 32 by omega), ma_12 (show 8 * i + (r.2.1.length - 1) < 32 by omega)]
        simp only [ob_s]
        rw [show v0.2 11 (8 * i + (r.2.1.length - 1)) = nI p.1 by rw [hag0.2 11 (by decide)]; exact p1, show v0.2 12 (8 * i + (r.2.1.length - 1)) = nI p.2 by rw [hag0.2 12 (by decide)]; exact p2]
        simp only [mg_c, gd_t, g1, bn_s, mR_17, mR_14, ob_s, ma_13 i4, ma_10 i4, w2, w4, b2i_0, rt_i, id]
        unfold notR
        cases (telR p.1 p.2 r).2.2.1 <;> simp
      · show RMr (updR (zR s) r.1 (telR p.1 p.2)) v1
        rw [updR_set hN.1 hri]; exact g3
      · rw [g2.1 0 (by decide), z0, ui_1, if_pos rfl]
theorem q_lose (h : RA s u) (h6 : fMd (zF s) ≤ 60) (hT : RT (zF s) (zR s)) (hN : RN (zF s) (zR s)) (x y : Int32) : ∃ v b, n_X3_lose (mput M S u) (some M) x y = some (b, mput M S v) ∧ RO (opLose s x y) b v := by
  have hh := h
  obtain ⟨⟨hf, hr, he, ha, hs, hw, hnn⟩, hz⟩ := h
  simp only [n_X3_lose, mg_c, gd_t, q_rootAtX hr hT.toS h6, bn_s, q_in, b2i_0]
  cases hl : lst (fun r : RtV => nI r.1 == x) (zR s) (zR s).length with
  | none =>
    refine ⟨ui u 0 1, 0, ?_, by simp only [opLose, rtA_none hl]; exact RO_fail hh 1 0 (by decide)⟩
    simp only [prI_n, if_true, n_X3_lose_b31, mw_0, ob_s, mI_0, ui_1, i_nle0_1, if_false, rt_i, id]
  | some i =>
    obtain ⟨r, hri, hra, -⟩ := rtA_some hT hN h6 hl
    have hil := (List.getElem?_eq_some_iff.mp hri).1
    have h3 := hT.1
    have i4 : i < 4 := by omega
    have hB := hT.2 r (List.mem_of_getElem? hri)
    have h8 := hB.2.1
    obtain ⟨r1, r2, r3, r4, r5, r6', r7⟩ := hr.2 i r hri
    simp only [prI_s, nI_e1 (show i < 2 ^ 31 by omega), if_false]
    simp only [opLose, hra]
    cases hi : inI y 1 8 with
    | false =>
      refine ⟨ui u 0 2, 0, ?_, RO_fail hh 2 0 (by decide)⟩
      simp only [if_true, n_X3_lose_b31, mw_0, ob_s, mI_0, ui_1, i_nle0_2, if_false, rt_i, id]
    | true =>
      obtain ⟨y', hy8, rfl⟩ : ∃ y', y' ≤ 8 ∧ y = nI y' := by
        simp only [inI, Bool.and_eq_true, Bool.not_eq_true', decide_eq_false_iff_not] at hi
        have e8 : (8 : Int32).toInt = (8 : Nat) := by decide
        exact nI_of2 e8 (fun z => hi.1 (Int32.lt_trans z (by decide))) (Int32.not_lt.mp hi.2)
      rw [nI_clamp (by omega)]
      simp only [Bool.true_eq_false, if_false]
      obtain ⟨v0, z0⟩ : ∃ x, x = ui u 0 0 := ⟨_, rfl⟩
      obtain ⟨v1, z1⟩ : ∃ x, x = ua v0 10 i (nI (r.2.1.length - y')) := ⟨_, rfl⟩
      have t0 := mw_0 (M := M) (S := S) (u := u) (x := 0)
      have t1 := ms_10 (M := M) (S := S) (u := v0) (x := nI (r.2.1.length - y')) i4
      rw [← z0] at t0
      rw [← z1] at t1
      have hag0 : Ag [0] [] u v0 := by rw [z0]; exact Ag_ui u _ (by decide)
      have hag1 : Ag [0] [10] u v1 := by rw [z1]; exact Ag_tr (Ag_up hag0 (by decide) (by decide)) (Ag_ua _ _ _ (by decide))
      have e10 : v0.2 10 i = nI r.2.1.length := by rw [hag0.2 10 (by decide)]; exact r2
      refine ⟨v1, nI (r.2.1.length - y'), ?_, RO_ok ⟨⟨hf.ag hag1, ?_, he.ag hag1, ha.ag hag1, hs.ag hag1, hw.ag hag1, hnn.ag hag1⟩, hz.ag hag1⟩ ?_⟩
      · simp only [n_X3_lose_b31, t0, ob_s, mI_0]
        rw [show v0.1 0 = 0 by rw [z0, ui_1, if_pos rfl], if_pos i_le00]
        simp only [mR_14, ob_s, ma_10 i4, e10, nI_leE (show r.2.1.length < 2 ^ 31 by omega) (show y' < 2 ^ 31 by omega), n_X3_lose_b70]
        by_cases hc : r.2.1.length ≤ y'
        · rw [if_pos hc, nI_subI (Nat.le_refl _), show r.2.1.length - r.2.1.length = r.2.1.length - y' by omega, t1]
          simp only [ob_s, mR_14, ma_10 i4, rt_i, id]
          rw [z1, ua_2, if_pos ⟨rfl, rfl⟩]
        · rw [if_neg hc, nI_subI (by omega), t1]
          simp only [ob_s, mR_14, ma_10 i4, rt_i, id]
          rw [z1, ua_2, if_pos ⟨rfl, rfl⟩]
      · show RMr (updR (zR s) r.1 (losR y')) v1
        rw [updR_set hN.1 hri]
        refine RMr_set hr hil (hag1.1 12 (by decide)) (fun j r0 hj hr0 hR => ?_) ?_
        · have hB0 := hT.2 r0 (List.mem_of_getElem? hr0)
          refine RRt_loc hR hB0.2.1 (fun l hl => hB0.cl h6 hl) ?_ ?_ ?_
          · intro p hp
            simp only [List.mem_cons, List.not_mem_nil, or_false] at hp
            rcases hp with rfl | rfl | rfl | rfl | rfl <;> simp [z1, z0, ua_2, ui_2, hj]
          · intro p hp q hq
            simp only [List.mem_cons, List.not_mem_nil, or_false] at hp
            rcases hp with rfl | rfl <;> simp [z1, z0, ua_2, ui_2]
          · intro p hp q hq
            simp only [List.mem_cons, List.not_mem_nil, or_false] at hp
            rcases hp with rfl | rfl <;> simp [z1, z0, ua_2, ui_2]
        · refine ⟨?_, ?_, fun q p hp => ?_, ?_, ?_, fun l hl => ?_, fun n hn => ?_⟩
          · rw [hag1.2 9 (by decide)]; exact r1
          · rw [z1, ua_2, if_pos ⟨rfl, rfl⟩]
            simp [losR]
          · simp only [losR] at hp
            rw [List.getElem?_take] at hp
            split at hp
            · rw [hag1.2 11 (by decide), hag1.2 12 (by decide)]; exact r3 q p hp
            · cases hp
          · rw [hag1.2 13 (by decide)]; exact r4
          · rw [hag1.2 14 (by decide)]; exact r5
          · rw [hag1.2 15 (by decide), hag1.2 16 (by decide)]; exact r6' l hl
          · rw [hag1.2 17 (by decide)]; exact r7 n hn
      · rw [z1]
        show v0.1 0 = 0
        rw [z0, ui_1, if_pos rfl]
theorem q_pass (h : RA s u) (x : Int32) : ∃ v b, n_X3_pass (mput M S u) (some M) x = some (b, mput M S v) ∧ RO (opPass s x) b v := by
  have hh := h
  obtain ⟨⟨hf, hr, he, ha, hs, hw, hnn⟩, hz⟩ := h
  have hfail : ∀ c : Int32, c ≠ 0 → ¬ c ≤ 0 → ∃ v, n_X3_pass_b32 (mput M S u) (some M) x c (some M) = some (0, mput M S v) ∧ RO (c, 0, s) 0 v := by
    intro c hc hc2
    obtain ⟨v0, z0⟩ : ∃ x, x = ui u 0 c := ⟨_, rfl⟩
    have t0 := mw_0 (M := M) (S := S) (u := u) (x := c)
    have t1 := mw_1 (M := M) (S := S) (u := v0) (x := u.1 1 + 0)
    rw [← z0] at t0
    have e1 : v0.1 1 = u.1 1 := by rw [z0, ui_1, if_neg (by decide)]
    have e0 : v0.1 0 = c := by rw [z0, ui_1, if_pos rfl]
    have hag : Ag [0] [] u v0 := by rw [z0]; exact Ag_ui u _ (by decide)
    refine ⟨ui v0 1 (u.1 1 + 0), ?_, ?_, fun z => absurd z hc, ?_⟩
    · simp only [n_X3_pass_b32, t0, ob_s, mI_1, mI_0, e0, hc, if_false, n_X3_pass_b52, e1, t1]
      rw [show (ui v0 1 (u.1 1 + 0)).1 0 = c by rw [ui_1, if_neg (by decide), e0], if_neg hc2]
      simp only [rt_i, id]
    · rw [ui_1, if_neg (by decide), e0]
    · have hn2 : RMn (zN s) (ui v0 1 (u.1 1 + 0)) := by
        obtain ⟨m1, m2, m3, m4, m5, m6⟩ := hnn
        refine ⟨?_, ?_, ?_, ?_, ?_, ?_⟩
        · rw [ui_1, if_pos rfl, Int32.add_zero]; exact m1
        all_goals rw [ui_1, if_neg (by decide), hag.1 _ (by decide)]; assumption
      have hag2 : Ag [0, 1] [] u (ui v0 1 (u.1 1 + 0)) := Ag_tr (Ag_up hag (by decide) (by decide)) (Ag_ui _ _ (by decide))
      exact ⟨⟨hf.ag hag2, hr.ag hag2, he.ag hag2, ha.ag hag2, hs.ag hag2, hw.ag hag2, hn2⟩, hz.ag hag2⟩
  simp only [n_X3_pass, q_in, bn_s, b2i_0, opPass]
  cases hi : inI x 1 1000 with
  | false =>
    obtain ⟨v, h1, h2⟩ := hfail 1 (by decide) (by decide)
    exact ⟨v, 0, by simp [h1], by simpa using h2⟩
  | true =>
    simp only [Bool.true_eq_false, if_false, mI_1, ob_s, hnn.1]
    by_cases hc : (100000 : Int32) < (zN s).1 + x
    · obtain ⟨v, h1, h2⟩ := hfail 2 (by decide) (by decide)
      rw [if_neg (Int32.not_le.mpr hc), if_pos hc]
      exact ⟨v, 0, h1, h2⟩
    · rw [if_pos (Int32.not_lt.mp hc), if_neg hc]
      obtain ⟨v0, z0⟩ : ∃ x, x = ui u 0 0 := ⟨_, rfl⟩
      have t0 := mw_0 (M := M) (S := S) (u := u) (x := 0)
      have t1 := mw_1 (M := M) (S := S) (u := v0) (x := (zN s).1 + x)
      rw [← z0] at t0
      have e1 : v0.1 1 = (zN s).1 := by rw [z0, ui_1, if_neg (by decide)]; exact hnn.1
      have e0 : v0.1 0 = 0 := by rw [z0, ui_1, if_pos rfl]
      have hag : Ag [0] [] u v0 := by rw [z0]; exact Ag_ui u _ (by decide)
      have hag2 : Ag [0, 1] [] u (ui v0 1 ((zN s).1 + x)) := Ag_tr (Ag_up hag (by decide) (by decide)) (Ag_ui _ _ (by decide))
      refine ⟨ui v0 1 ((zN s).1 + x), (zN s).1 + x, ?_, RO_ok ⟨⟨hf.ag hag2, hr.ag hag2, he.ag hag2, ha.ag hag2, hs.ag hag2, hw.ag hag2, ?_⟩, hz.ag hag2⟩ ?_⟩
      · simp only [n_X3_pass_b32, t0, ob_s, mI_1, mI_0, e0, if_true, n_X3_pass_b52, e1, t1]
        rw [show (ui v0 1 ((zN s).1 + x)).1 0 = 0 by rw [ui_1, if_neg (by decide), e0], if_pos i_le00, show (ui v0 1 ((zN s).1 + x)).1 1 = (zN s).1 + x by rw [ui_1, if_pos rfl]]
        simp only [rt_i, id]
      · obtain ⟨m1, m2, m3, m4, m5, m6⟩ := hnn
        refine ⟨?_, ?_, ?_, ?_, ?_, ?_⟩
        · rw [ui_1, if_pos rfl]; rfl
        all_goals rw [ui_1, if_neg (by decide), hag.1 _ (by decide)]; assumption
      · rw [ui_1, if_neg (by decide), e0]
theorem q_battery (h : RA s u) (b : Bool) : ∃ v r, n_X3_battery (mput M S u) (some M) (b2i b) = some (r, mput M S v) ∧ RO (opBattery s b) r v := by
  obtain ⟨⟨hf, hr, he, ha, hs, hw, hnn⟩, hz⟩ := h
  have hag2 : Ag [0, 34] [] u (ui (ui u 0 0) 34 (b2i b)) := Ag_tr (Ag_ui _ _ (by decide)) (Ag_ui _ _ (by decide))
  obtain ⟨m1, m2, m3, m4, m5, m6⟩ := hnn
  refine ⟨ui (ui u 0 0) 34 (b2i b), b2i (zN s).2.1, ?_, RO_ok ⟨⟨hf.ag hag2, hr.ag hag2, he.ag hag2, ha.ag hag2, hs.ag hag2, hw.ag hag2, ?_⟩, hz.ag hag2⟩ ?_⟩
  · simp only [n_X3_battery, mw_0, ob_s, mI_34, mw_34 (b2i_01 b)]
    rw [show (ui u 0 0).1 34 = b2i (zN s).2.1 by rw [ui_1, if_neg (by decide)]; exact m2]
    simp only [rt_b, id]
  · refine ⟨?_, ?_, ?_, ?_, ?_, ?_⟩
    · rw [ui_1, if_neg (by decide), ui_1, if_neg (by decide)]; exact m1
    · rw [ui_1, if_pos rfl]; rfl
    all_goals rw [ui_1, if_neg (by decide), ui_1, if_neg (by decide)]; assumption
  · rw [ui_1, if_neg (by decide), ui_1, if_pos rfl]
theorem q_limits (h : RA s u) (x y : Int32) : ∃ v b, n_X3_limits (mput M S u) (some M) x y = some (b, mput M S v) ∧ RO (opLimits s x y) b v := by
  have hh := h
  obtain ⟨⟨hf, hr, he, ha, hs, hw, hnn⟩, hz⟩ := h
  have e1 : n_X3_limits_b24 (mput M S u) (some M) x y (some M) = some (0, mput M S (ui u 0 1)) := by
    simp only [n_X3_limits_b24, n_X3_limits_b25, mw_0, ob_s, mI_0, ui_1, if_true, i_nle0_1, if_false, rt_i, id]
  simp only [n_X3_limits, q_in, bn_s, b2i_0, e1, opLimits]
  by_cases hc : inI x 0 3 = true ∧ inI y 1 20 = true
  · rw [if_pos hc]
    simp only [hc.1, hc.2, Bool.true_eq_false, if_false]
    have hag2 : Ag [0, 28, 29] [] u (ui (ui (ui u 0 0) 28 x) 29 y) := Ag_tr (Ag_tr (Ag_ui _ _ (by decide)) (Ag_ui _ _ (by decide))) (Ag_ui _ _ (by decide))
    obtain ⟨m1, m2, m3, m4, m5, m6⟩ := hnn
    refine ⟨ui (ui (ui u 0 0) 28 x) 29 y, (zN s).2.2.2.2.2, ?_, RO_ok ⟨⟨hf.ag hag2, hr.ag hag2, he.ag hag2, ha.ag hag2, hs.ag hag2, hw.ag hag2, ?_⟩, hz.ag hag2⟩ ?_⟩
    · simp only [n_X3_limits_b25, mw_0, ob_s, mI_0, ui_1, if_true, i_le00, mI_29, mw_28, mw_29, rt_i, id]
      rw [if_neg (by decide), m6]
    · refine ⟨?_, ?_, ?_, ?_, ?_, ?_⟩
      · rw [ui_1, if_neg (by decide), ui_1, if_neg (by decide), ui_1, if_neg (by decide)]; exact m1
      · rw [ui_1, if_neg (by decide), ui_1, if_neg (by decide), ui_1, if_neg (by decide)]; exact m2
      · rw [ui_1, if_neg (by decide), ui_1, if_neg (by decide), ui_1, if_neg (by decide)]; exact m3
      · rw [ui_1, if_neg (by decide), ui_1, if_neg (by decide), ui_1, if_neg (by decide)]; exact m4
      · rw [ui_1, if_neg (by decide), ui_1, if_pos rfl]; rfl
      · rw [ui_1, if_pos rfl]; rfl
    · rw [ui_1, if_neg (by decide), ui_1, if_neg (by decide), ui_1, if_pos rfl]
  · rw [if_neg hc]
    refine ⟨ui u 0 1, 0, ?_, RO_fail hh 1 0 (by decide)⟩
    rcases Bool.eq_false_or_eq_true (inI x 0 3) with c1 | c1
    · rcases Bool.eq_false_or_eq_true (inI y 1 20) with c2 | c2
      · exact absurd ⟨c1, c2⟩ hc
      · simp [c1, c2]
    · simp [c1]
theorem q_crawl (h : RA s u) (h6 : fMd (zF s) ≤ 60) (hT : RT (zF s) (zR s)) (hN : RN (zF s) (zR s)) (x : Int32) : ∃ v b, n_X3_crawl (mput M S u) (some M) x = some (b, mput M S v) ∧ RO (opCrawl s x) b v := by
  have hh := h
  obtain ⟨⟨hf, hr, he, ha, hs, hw, hnn⟩, hz⟩ := h
  simp only [n_X3_crawl, mg_c, gd_t, q_rootAtX hr hT.toS h6, bn_s]
  cases hl : lst (fun r : RtV => nI r.1 == x) (zR s) (zR s).length with
  | none =>
    refine ⟨ui u 0 1, 0, ?_, by simp only [opCrawl, rtA_none hl]; exact RO_fail hh 1 0 (by decide)⟩
    simp only [prI_n, if_true, n_X3_crawl_b17, mw_0, ob_s, mI_0, ui_1, i_nle0_1, if_false, rt_i, id]
  | some i =>
    obtain ⟨r, hri, hra, -⟩ := rtA_some hT hN h6 hl
    have hil := (List.getElem?_eq_some_iff.mp hri).1
    have h3 := hT.1
    simp only [prI_s, nI_e1 (show i < 2 ^ 31 by omega), if_false, opCrawl, hra]
    obtain ⟨v0, z0⟩ : ∃ x, x = ui u 0 0 := ⟨_, rfl⟩
    have t0 := mw_0 (M := M) (S := S) (u := u) (x := 0)
    rw [← z0] at t0
    have hag0 : Ag [0] [] u v0 := by rw [z0]; exact Ag_ui u _ (by decide)
    obtain ⟨v1, g1, g2, g3⟩ := q_beginsCrawl (M := M) (S := S) (hr.ag hag0) hT h6 hri
    rw [← updR_set hN.1 hri] at g3
    obtain ⟨R, eR⟩ : ∃ R, R = updR (zR s) r.1 begR := ⟨_, rfl⟩
    rw [← eR] at g3 ⊢
    have hRl : R.length = (zR s).length := by rw [eR, updR_len]
    have hzl : R.length < 2 ^ 31 := by omega
    have key := lp_u0 (fun m k => n_X3_crawl_b39 m (mput M S v1) (some M) (nI ((R.take k).countP fun r => r.2.2.2.1.isSome)) (nI k)) R.length (some (nI ((R.take R.length).countP fun r => r.2.2.2.1.isSome), mput M S v1)) ?_ ?_ (m := FU) (by simp only [FU]; omega)
    · simp only [List.take_zero, List.countP_nil, List.take_length, nI_0] at key
      refine ⟨v1, _, ?_, RO_ok ⟨⟨(hf.ag hag0).ag g2, g3, (he.ag hag0).ag g2, (ha.ag hag0).ag g2, (hs.ag hag0).ag g2, (hw.ag hag0).ag g2, (hnn.ag hag0).ag g2⟩, (hz.ag hag0).ag g2⟩ ?_⟩
      · simp only [n_X3_crawl_b17, t0, ob_s, mI_0]
        rw [show v0.1 0 = 0 by rw [z0, ui_1, if_pos rfl], if_pos i_le00]
        simp only [mg_c, gd_t, g1, bn_s, key]
      · rw [g2.1 0 (by decide), z0, ui_1, if_pos rfl]
    · intro m k hk
      have hk2 : R[k]? = some R[k] := List.getElem?_eq_getElem hk
      have ht : R.take (k + 1) = R.take k ++ [R[k]] := List.take_succ_eq_append_getElem hk
      obtain ⟨-, -, -, -, r5, -⟩ := g3.2 k _ hk2
      simp only [n_X3_crawl_b39, n_X3_crawl_b64, mI_12, ob_s, g3.1, nI_leE hzl (show k < 2 ^ 31 by omega), mR_18, ma_14 (show k < 4 by omega), r5, b2i_0, nI_1, ht, List.countP_append]
      rw [if_neg (by omega)]
      rcases Bool.eq_false_or_eq_true (R[k].2.2.2.1.isSome) with hb | hb <;> simp [hb]
    · intro m
      simp only [n_X3_crawl_b39, mI_12, ob_s, g3.1, nI_leE hzl hzl, Nat.le_refl, if_true, rt_i, id]
theorem q_acts (h : RA s u) : ∃ v b, n_X3_acts_2 (mput M S u) (some M) = some (b, mput M S v) ∧ RO (opActs s) b v := by
  refine ⟨ui u 0 0, nI (zA s).length, ?_, RO_same h _⟩
  simp only [n_X3_acts_2, mw_0, ob_s, mI_30, ui_1, show ((30 : Nat) = 0) = False by decide, if_false, h.1.2.2.2.1.1, rt_i, id]
theorem q_segments (h : RA s u) : ∃ v b, n_X3_segments (mput M S u) (some M) = some (b, mput M S v) ∧ RO (opSegments s) b v := by
  refine ⟨ui u 0 0, nI (zS s).length, ?_, RO_same h _⟩
  simp only [n_X3_segments, mw_0, ob_s, mI_41, ui_1, show ((41 : Nat) = 0) = False by decide, if_false, h.1.2.2.2.2.1.1, rt_i, id]
theorem q_edition (h : RA s u) (h6 : fMd (zF s) ≤ 60) (x : Int32) : ∃ v b, n_X3_edition (mput M S u) (some M) x = some (b, mput M S v) ∧ RO (opEdition s x) b v := by
  have hh := h
  obtain ⟨⟨hf, hr, he, ha, hs, hw, hnn⟩, hz⟩ := h
  simp only [n_X3_edition, mI_2, ob_s, hf.1, q_in, bn_s, b2i_0, opEdition]
  rcases inI_cases h6 x with ⟨k, hk, rfl, hi⟩ | ⟨hi, -⟩
  · have k60 : k < 60 := by omega
    simp only [hi, Bool.true_eq_false, if_false]
    rw [nI_clamp (by omega)]
    obtain ⟨e1, e2⟩ := he k k60
    cases hek : zE s k with
    | none =>
      refine ⟨ui u 0 0, -1, ?_, RO_same hh _⟩
      simp only [n_X3_edition_b20, mw_0, ob_s, mI_0, ui_1, if_true, i_le00, mR_22, ma_18 k60, ui_2, e1, hek, Option.isSome_none, b2i_f, rt_i, id]
    | some e =>
      obtain ⟨-, -, e3, -⟩ := e2 e hek
      refine ⟨ui u 0 0, nI e.2.2.1, ?_, RO_same hh _⟩
      simp only [n_X3_edition_b20, mw_0, ob_s, mI_0, ui_1, if_true, i_le00, mR_22, ma_18 k60, ui_2, e1, hek, Option.isSome_some, b2i_0, Bool.true_eq_false, if_false, mR_25, ma_21 k60, e3, rt_i, id]
  · simp only [hi, if_true]
    refine ⟨ui u 0 1, 0, ?_, RO_fail hh 1 0 (by decide)⟩
    simp only [n_X3_edition_b20, mw_0, ob_s, mI_0, ui_1, if_true, i_nle0_1, if_false, rt_i, id]
theorem q_entries (h : RA s u) (h6 : fMd (zF s) ≤ 60) (hE : ES (zF s) (zE s)) : ∃ v b, n_X3_entries (mput M S u) (some M) = some (b, mput M S v) ∧ RO (opEntries s) b v := by
  have hf0 : RMf (zF s) (ui u 0 0) := h.1.1.ag (Ag_ui (I := [0]) (P := []) u 0 (by decide))
  have he := h.1.2.2.1
  have hz : fMd (zF s) < 2 ^ 31 := by omega
  have hx : cnB (fun k => (zE s k).isSome) 60 = cnB (fun k => (zE s k).isSome) (fMd (zF s)) := by
    have : ∀ m, fMd (zF s) ≤ m → cnB (fun k => (zE s k).isSome) m = cnB (fun k => (zE s k).isSome) (fMd (zF s)) := by
      intro m
      induction m with
      | zero => intro h; have : fMd (zF s) = 0 := by omega
                rw [this]
      | succ m ih =>
        intro h
        by_cases e : fMd (zF s) = m + 1
        · rw [e]
        · have hn : zE s m = none := by
            cases hek : zE s m with
            | none => rfl
            | some e => have := (hE m e hek).1; omega
          simp only [cnB, hn, Option.isSome_none, Bool.false_eq_true, if_false, Nat.add_zero]
          exact ih (by omega)
    exact this 60 h6
  refine ⟨ui u 0 0, nI (cnB (fun k => (zE s k).isSome) 60), ?_, RO_same h _⟩
  rw [hx]
  simp only [n_X3_entries, mw_0, ob_s]
  have key := lp_u0 (fun m k => n_X3_entries_b9 m (mput M S (ui u 0 0)) (some M) (nI (cnB (fun k => (zE s k).isSome) k)) (nI k)) (fMd (zF s)) (some (nI (cnB (fun k => (zE s k).isSome) (fMd (zF s))), mput M S (ui u 0 0))) ?_ ?_ (m := FU) (by simp only [FU]; omega)
  · simp only [cnB, nI_0] at key
    exact key
  · intro m k hk
    simp only [n_X3_entries_b9, n_X3_entries_b32, mI_2, ob_s, hf0.1, nI_leE hz (show k < 2 ^ 31 by omega), mR_22, ma_18 (show k < 60 by omega), ui_2, (he k (by omega)).1, b2i_0, nI_1, cnB]
    rw [if_neg (by omega)]
    rcases Bool.eq_false_or_eq_true (zE s k).isSome with hb | hb <;> simp [hb]
  · intro m
    simp only [n_X3_entries_b9, mI_2, ob_s, hf0.1, nI_leE hz hz, Nat.le_refl, if_true, rt_i, id]
theorem q_stale (h : RA s u) (A : AC (zF s) rk) (h6 : fMd (zF s) ≤ 60) (hT : RT (zF s) (zR s)) (hN : RN (zF s) (zR s)) (hE : ES (zF s) (zE s)) (hF : FS (zF s)) : ∃ v b, n_X3_stale (mput M S u) (some M) = some (b, mput M S v) ∧ RO (opStale s) b v := by
  have hag : Ag [0] [] u (ui u 0 0) := Ag_ui u 0 (by decide)
  have hf0 := h.1.1.ag hag
  have hr0 := h.1.2.1.ag hag
  have he0 := h.1.2.2.1.ag hag
  have hz : fMd (zF s) < 2 ^ 31 := by omega
  refine ⟨ui u 0 0, nI (cnB (stlB s) (fMd (zF s))), ?_, RO_same h _⟩
  simp only [n_X3_stale, mw_0, ob_s]
  have key := lp_u0 (fun m k => n_X3_stale_b9 m (mput M S (ui u 0 0)) (some M) (nI (cnB (stlB s) k)) (nI k)) (fMd (zF s)) (some (nI (cnB (stlB s) (fMd (zF s))), mput M S (ui u 0 0))) ?_ ?_ (m := FU) (by simp only [FU]; omega)
  · simp only [cnB, nI_0] at key
    exact key
  · intro m k hk
    have k60 : k < 60 := by omega
    have e1 : (prI (ovr (zF s) (zR s) k) = -1) = ((abv (zF s) (zR s) k).isSome = false) := by
      rw [prI_none (ovr_bd hT.toS k), ← ovr_iff A hN hk]
      cases ovr (zF s) (zR s) k <;> simp
    simp only [n_X3_stale_b9, mI_2, ob_s, hf0.1, nI_leE hz (show k < 2 ^ 31 by omega), mg_c, gd_t, q_over hf0 A hr0 hT.toS h6 hk, bn_s, e1, n_X3_stale_b31, n_X3_stale_b58, n_X3_stale_b59, n_X3_stale_b79, n_X3_stale_b80, mR_22, ma_18 k60, (he0 k k60).1, mR_4, ma_1 k60, hf0.fo hk, b2i_0, q_isKnown hf0 A h6 he0 hE hF hk, nI_1, cnB]
    rw [if_neg (by omega)]
    have a0 : ∀ x : Int32, x + 0 = x := Int32.add_zero
    simp only [stlB]
    rcases Bool.eq_false_or_eq_true (abv (zF s) (zR s) k).isSome with b1 | b1
    · rcases Bool.eq_false_or_eq_true (fFo (zF s) k) with b2 | b2
      · rcases Bool.eq_false_or_eq_true (zE s k).isSome with b3 | b3 <;> simp [b1, b2, b3]
      · rcases Bool.eq_false_or_eq_true (kno (zF s) (zE s) k) with b4 | b4
        · rcases Bool.eq_false_or_eq_true (zE s k).isSome with b3 | b3 <;> simp [b1, b2, b3, b4]
        · rcases Bool.eq_false_or_eq_true (zE s k).isSome with b3 | b3 <;> simp [b1, b2, b3, b4, nI_1]
    · rcases Bool.eq_false_or_eq_true (zE s k).isSome with b3 | b3 <;> simp [b1, b3, nI_1]
  · intro m
    simp only [n_X3_stale_b9, mI_2, ob_s, hf0.1, nI_leE hz hz, Nat.le_refl, if_true, rt_i, id]
end
