/-! the reference's call work -/
def wrkN (n : Nm) (d : Int32) : Nm := nwHo n n.2.2.1 (n.2.2.2.1 + if n.2.1 then d else 0)
def offA (ac : List AcV) : List AcV := ac.map fun a => (a.1, a.2.1, false)
def begN (n : Nm) : Nm := nwHo n (n.1 / 60) (if n.2.2.1 = n.1 / 60 then n.2.2.2.1 else 0)
def mstN (n : Nm) (x : Int32) : Int32 := if n.2.1 = true ∧ ¬ x ≤ 20 - n.2.2.2.1 then 20 - n.2.2.2.1 else x
def endW (t : Int32 × Sg) : Sg := wA (wN t.2 (wrkN (zN t.2) t.1)) (offA (zA t.2))
def wrkT (s : Sg) (x : Int32) : Int32 × Sg := wrkL (mstN (begN (zN s)) x) 501 (wN s (begN (zN s))) 0
def opWork (s : Sg) (x : Int32) (sid : Nat) : Ro := if inI x 1 500 = false then (1, 0, s) else (0, (wrkT s x).1, stor (endW (wrkT s x)) sid)
section
variable {M : Nat} {S : St} {u v w : MM} {f f' : Fl} {rs rs' : List RtV} {en : En} {ac : List AcV} {s : Sg} {rk rk' : Nat → Nat}
theorem doN_bd (s : Sg) (l : Int32) : 0 < (doN s l).1 → (doN s l).1 ≤ l := by
  unfold doN
  split
  · split
    · intro h; exact absurd h (show ¬ (0 : Int32) < 0 by decide)
    · next h => intro _; exact Int32.not_lt.mp h
  · split
    · split
      · intro h; exact absurd h (show ¬ (0 : Int32) < 0 by decide)
      · next h => intro _; exact Int32.not_lt.mp h
    · split
      · split
        · intro h; exact absurd h (show ¬ (0 : Int32) < 0 by decide)
        · next h => intro _; exact Int32.not_lt.mp h
      · intro h; exact absurd h (show ¬ (0 : Int32) < 0 by decide)
theorem perf_sg (s : Sg) (a : AcV) : (zS (perf s a)).length = (zS s).length := by
  unfold perf
  split
  · show (kilS (zS s) _).length = _
    simp [kilS]
  · split
    · rfl
    · split
      · rfl
      · rfl
theorem crwl_sg (s : Sg) (r : RtV) : zS (crwl s r) = zS s := by
  unfold crwl
  split
  · unfold cwF; split <;> rfl
  · rfl
theorem hear_sg (s : Sg) (r : RtV) : zS (hear s r) = zS s := by
  unfold hear
  split
  · rfl
  · split <;> rfl
theorem doN_sg (s : Sg) (l : Int32) : (zS (doN s l).2).length = (zS s).length := by
  unfold doN
  split
  · split
    · rfl
    · rw [hear_sg]
  · split
    · split
      · rfl
      · rw [perf_sg]
    · split
      · split
        · rfl
        · rw [crwl_sg]
      · rfl
/-- the loop of work -/
theorem q_wrk (left : Int32) (h5 : left.toInt ≤ 500) : ∀ (c m : Nat) (s : Sg) (u : MM) (d : Int32), IW s rk → RA s u → 0 ≤ d.toInt → (d = 0 ∨ d.toInt ≤ left.toInt) → 500 - d.toInt < c → c ≤ m → ∃ v, (bn (n_X3_does (mput M S u) (some M) (left - d)) fun v4 S3 => n_X3_work_b105 m S3 (some M) left d v4) = ((gI (mput M S v) (some M) 15 36).bind fun v1 => (gI (mput M S v) (some M) 15 34).bind fun v2 => if v2 = 0 then n_X3_work_b144 (mput M S v) (some M) (wrkL left c s d).1 0 v1 (some M) else n_X3_work_b144 (mput M S v) (some M) (wrkL left c s d).1 (wrkL left c s d).1 v1 (some M)) ∧ v.1 0 = u.1 0 ∧ RA (wrkL left c s d).2 v ∧ IW (wrkL left c s d).2 rk ∧ (zS (wrkL left c s d).2).length = (zS s).length := by
  intro c
  induction c with
  | zero =>
    intro m s u d _ _ h0 h1 h2
    exfalso
    rcases h1 with rfl | h1
    · simp at h2
    · omega
  | succ c ih =>
    intro m s u d hI hs h0 h1 h2 hm
    obtain ⟨m, rfl⟩ : ∃ m', m = m' + 1 := ⟨m - 1, by omega⟩
    obtain ⟨v, d1, d2, d3⟩ := q_does (M := M) (S := S) hI hs (left - d)
    have hI2 := IW_doN hI (left - d)
    have hsg := doN_sg s (left - d)
    have hb := doN_bd s (left - d)
    obtain ⟨t, et⟩ : ∃ t, t = doN s (left - d) := ⟨_, rfl⟩
    rw [← et] at d1 d3 hI2 hsg hb
    simp only [wrkL, ← et]
    rw [d1, bn_s]
    by_cases hp : 0 < t.1
    · simp only [if_pos hp]
      have hb2 := Int32.le_iff_toInt_le.mp (hb hp)
      have hp2 := Int32.lt_iff_toInt_lt.mp hp
      simp only [Int32.toInt_zero] at hp2
      have hld : (left - d).toInt = left.toInt - d.toInt := by
        rcases h1 with rfl | h1
        · simp
        · rw [Int32.toInt_sub, Int.bmod_eq_of_le (by omega) (by omega)]
      have hadd : (d + t.1).toInt = d.toInt + t.1.toInt := by
        rw [Int32.toInt_add, Int.bmod_eq_of_le (by omega) (by omega)]
      obtain ⟨v2, e1, e2, e3, e4, e5⟩ := ih m t.2 v (d + t.1) hI2 d3 (by omega) (Or.inr (by omega)) (by omega) (by omega)
      refine ⟨v2, ?_, e2.trans d2, e3, e4, e5.trans hsg⟩
      rw [← e1]
      have hn : ¬ t.1 ≤ 0 := Int32.not_le.mpr hp
      simp only [n_X3_work_b105, if_neg hn, mg_c, gd_t]
    · simp only [if_neg hp]
      refine ⟨v, ?_, d2, d3, hI2, hsg⟩
      have hn : t.1 ≤ 0 := Int32.not_lt.mp hp
      simp only [n_X3_work_b105, if_pos hn]
theorem q_off (ha : RMa ac u) (hl : ac.length ≤ 60) (r : Int32) : ∃ v, n_X3_work_b151 FU (mput M S u) (some M) r 0 = (gd (grc (mput M S v) (some M) 15) <| bn (n_X3_indexes (mput M S v) (some M)) fun _ S2 => rtI id (Jvm.ClassFile.FieldType.int) r S2) ∧ Ag [] [26] u v ∧ RMa (offA ac) v := by
  have key := lp_st (fun m k (v : MM) => n_X3_work_b151 m (mput M S v) (some M) r (nI k)) (fun v => gd (grc (mput M S v) (some M) 15) <| bn (n_X3_indexes (mput M S v) (some M)) fun _ S2 => rtI id (Jvm.ClassFile.FieldType.int) r S2) (fun k v => Ag [] [26] u v ∧ (∀ j, j < k → v.2 26 j = b2i false)) (fun v => Ag [] [26] u v ∧ RMa (offA ac) v) ac.length ?_ ?_ FU 0 u (Nat.zero_le _) (by simp only [FU]; omega) ⟨Ag_rf _ _ _, fun j hj => by omega⟩
  · obtain ⟨v, ⟨g1, g2⟩, g3⟩ := key
    rw [nI_0] at g3
    exact ⟨v, g3, g1, g2⟩
  · intro m k v hk ⟨g1, g2⟩
    have t1 := ms_26 (M := M) (S := S) (u := v) (i := k) false (show k < 60 by omega)
    refine ⟨ua v 26 k (b2i false), ⟨Ag_tr g1 (Ag_ua _ _ _ (by decide)), fun j hj => ?_⟩, ?_⟩
    · rw [ua_2]
      by_cases e : j = k
      · rw [if_pos ⟨rfl, e⟩]
      · rw [if_neg (by simp [e])]; exact g2 j (by omega)
    · simp only [n_X3_work_b151, mI_30, ob_s, g1.1 30 (by decide), ha.1, nI_leE (show ac.length < 2 ^ 31 by omega) (show k < 2 ^ 31 by omega), mR_33, show (0 : Int32) = b2i false from rfl, t1, nI_1]
      rw [if_neg (by omega)]
  · intro m v ⟨g1, g2⟩
    refine ⟨v, ⟨g1, ?_, fun i a hi => ?_⟩, ?_⟩
    · rw [g1.1 30 (by decide), ha.1]; simp [offA]
    · simp only [offA, List.getElem?_map] at hi
      cases hi2 : ac[i]? with
      | none => rw [hi2] at hi; simp at hi
      | some b =>
        rw [hi2] at hi
        simp only [Option.map_some, Option.some.injEq] at hi
        subst hi
        obtain ⟨h1, h2, h3⟩ := ha.2 i b hi2
        refine ⟨by rw [g1.2 24 (by decide)]; exact h1, by rw [g1.2 25 (by decide)]; exact h2, ?_⟩
        exact g2 i (List.getElem?_eq_some_iff.mp hi2).1
    · simp only [n_X3_work_b151, mI_30, ob_s, g1.1 30 (by decide), ha.1, nI_leE (show ac.length < 2 ^ 31 by omega) (show ac.length < 2 ^ 31 by omega), Nat.le_refl, if_true]
theorem offA_AB (h : AB f ac) : AB f (offA ac) := by
  refine ⟨?_, fun a ha => ?_⟩
  · have : (offA ac).map (·.1) = ac.map (·.1) := by simp [offA, Function.comp_def]
    rw [this]; exact h.1
  · obtain ⟨b, hb, rfl⟩ := List.mem_map.mp ha
    exact h.2 b hb
theorem IW_endW {t : Int32 × Sg} (hI : IW t.2 rk) : IW (endW t) rk := IW_acs (s := wN t.2 _) (IW_num hI _) (offA_AB hI.2.2.2.2.1)
theorem mst_500 (n : Nm) {x : Int32} (h : inI x 1 500 = true) : (mstN n x).toInt ≤ 500 := by
  simp only [inI, Bool.and_eq_true, Bool.not_eq_true', decide_eq_false_iff_not] at h
  have h2 := Int32.le_iff_toInt_le.mp (Int32.not_lt.mp h.2)
  have e : (500 : Int32).toInt = 500 := by decide
  rw [e] at h2
  unfold mstN
  split
  · next c =>
    have := Int32.lt_iff_toInt_lt.mp (Int32.not_le.mp c.2)
    omega
  · exact h2
theorem q_work (hI : IW s rk) (hs : RA s u) (h3 : (zS s).length ≤ 3) (x : Int32) (sid : Nat) : ∃ v b, n_X3_work (mput M S u) (some M) x = some (b, mput M S v) ∧ RO (opWork s x sid) b v := by
  have hh := hs
  simp only [n_X3_work, q_in, bn_s, b2i_0]
  cases hi : inI x 1 500 with
  | false =>
    refine ⟨ui u 0 1, 0, ?_, by simp only [opWork, hi, if_true]; exact RO_fail hh 1 0 (by decide)⟩
    simp only [if_true, n_X3_work_b17, mw_0, ob_s, mI_0, ui_1, i_nle0_1, if_false, rt_i, id]
  | true =>
    obtain ⟨v0, z0⟩ : ∃ x, x = ui u 0 0 := ⟨_, rfl⟩
    have t0 := mw_0 (M := M) (S := S) (u := u) (x := 0)
    rw [← z0] at t0
    have hv0 : v0.1 0 = 0 := by rw [z0, ui_1, if_pos rfl]
    have hs0 : RA s v0 := by rw [z0]; exact hs.th 0
    obtain ⟨n1, n2, n3, n4, n5, n6⟩ := hs0.1.2.2.2.2.2.2
    obtain ⟨v1, z1⟩ : ∃ x, x = ui (ui v0 36 (if (zN s).2.2.1 = (zN s).1 / 60 then (zN s).2.2.2.1 else 0)) 35 ((zN s).1 / 60) := ⟨_, rfl⟩
    have hv1 : v1.1 0 = 0 := by rw [z1, ui_1, if_neg (by decide), ui_1, if_neg (by decide)]; exact hv0
    have a1 : Ag [35, 36] [] v0 v1 := by rw [z1]; exact Ag_tr (Ag_ui _ _ (by decide)) (Ag_ui _ _ (by decide))
    have hs1 : RA (wN s (begN (zN s))) v1 := by
      obtain ⟨⟨hf, hr, he, ha, hsg, hw, hnn⟩, hz⟩ := hs0
      refine ⟨⟨hf.ag a1, hr.ag a1, he.ag a1, ha.ag a1, hsg.ag a1, hw.ag a1, ?_⟩, hz.ag a1⟩
      show RMn (begN (zN s)) v1
      refine ⟨by rw [a1.1 1 (by decide)]; exact n1, by rw [a1.1 34 (by decide)]; exact n2, ?_, ?_, by rw [a1.1 28 (by decide)]; exact n5, by rw [a1.1 29 (by decide)]; exact n6⟩
      · rw [z1, ui_1, if_pos rfl]; rfl
      · rw [z1, ui_1, if_neg (by decide), ui_1, if_pos rfl]; rfl
    obtain ⟨b1, b2, b3, b4, b5, b6⟩ := hs1.1.2.2.2.2.2.2
    obtain ⟨nb, enb⟩ : ∃ nb, nb = begN (zN s) := ⟨_, rfl⟩
    have hI1 : IW (wN s nb) rk := IW_num hI nb
    have h60 : ((60 : Int32) = 0) = False := by simp
    have hb52 : ∀ y, y = (if (zN s).2.2.1 = (zN s).1 / 60 then (zN s).2.2.2.1 else 0) → n_X3_work_b52 (mput M S v0) (some M) x y (some M) = n_X3_work_b95 (mput M S v1) (some M) (mstN nb x) := by
      intro y hy
      subst hy
      have t1 := mw_36 (M := M) (S := S) (u := v0) (x := if (zN s).2.2.1 = (zN s).1 / 60 then (zN s).2.2.2.1 else 0)
      have t2 := mw_35 (M := M) (S := S) (u := ui v0 36 (if (zN s).2.2.1 = (zN s).1 / 60 then (zN s).2.2.2.1 else 0)) (x := (zN s).1 / 60)
      rw [← z1] at t2
      simp only [n_X3_work_b52, t1, ob_s, mI_1, ui_1]
      have h136 : ((1 : Nat) = 36) = False := by simp
      simp only [h60, h136, if_false]
      rw [n1]
      simp only [t2, ob_s, mI_34, mI_36]
      rw [show v1.1 34 = b2i nb.2.1 by rw [enb]; exact b2, show v1.1 36 = nb.2.2.2.1 by rw [enb]; exact b4]
      simp only [b2i_0, n_X3_work_b94, mstN]
      rcases Bool.eq_false_or_eq_true nb.2.1 with c | c
      · by_cases c2 : x ≤ 20 - nb.2.2.2.1
        · simp [c, c2]
        · simp [c, c2]
      · simp [c]
    have hm5 := mst_500 nb hi
    obtain ⟨left, eleft⟩ : ∃ l, l = mstN nb x := ⟨_, rfl⟩
    rw [← eleft] at hm5
    have hT : wrkT s x = wrkL left 501 (wN s nb) 0 := by unfold wrkT; rw [← enb, ← eleft]
    obtain ⟨m0, hFU⟩ : ∃ m, FU = m + 1 := ⟨99999, rfl⟩
    have hm0 : 501 ≤ FU := by simp only [FU]; omega
    obtain ⟨v2, e1, e2, e3, e4, e5⟩ := q_wrk (M := M) (S := S) left hm5 501 FU (wN s nb) v1 0 hI1 (by rw [enb]; exact hs1) (by decide) (Or.inl rfl) (by decide) hm0
    rw [← hT] at e1 e3 e4 e5
    obtain ⟨⟨hf, hr, he, ha, hsg, hw, hnn⟩, hz⟩ := e3
    obtain ⟨k1, k2, k3, k4, k5, k6⟩ := hnn
    obtain ⟨v3, z3⟩ : ∃ y, y = ui v2 36 ((zN (wrkT s x).2).2.2.2.1 + if (zN (wrkT s x).2).2.1 then (wrkT s x).1 else 0) := ⟨_, rfl⟩
    have t3 := mw_36 (M := M) (S := S) (u := v2) (x := (zN (wrkT s x).2).2.2.2.1 + if (zN (wrkT s x).2).2.1 then (wrkT s x).1 else 0)
    rw [← z3] at t3
    have a3 : Ag [36] [] v2 v3 := by rw [z3]; exact Ag_ui _ _ (by decide)
    have hB := e4.2.2.2.2.1
    obtain ⟨v4, o1, o2, o3⟩ := q_off (M := M) (S := S) (ha.ag a3) (hB.len e4.2.1) (wrkT s x).1
    have hs4 : RA (endW (wrkT s x)) v4 := by
      refine ⟨⟨(hf.ag a3).ag o2, (hr.ag a3).ag o2, (he.ag a3).ag o2, o3, (hsg.ag a3).ag o2, (hw.ag a3).ag o2, ?_⟩, (hz.ag a3).ag o2⟩
      show RMn (wrkN (zN (wrkT s x).2) (wrkT s x).1) v4
      refine ⟨?_, ?_, ?_, ?_, ?_, ?_⟩
      · rw [o2.1 1 (by decide), a3.1 1 (by decide)]; exact k1
      · rw [o2.1 34 (by decide), a3.1 34 (by decide)]; exact k2
      · rw [o2.1 35 (by decide), a3.1 35 (by decide)]; exact k3
      · rw [o2.1 36 (by decide), z3, ui_1, if_pos rfl]; rfl
      · rw [o2.1 28 (by decide), a3.1 28 (by decide)]; exact k5
      · rw [o2.1 29 (by decide), a3.1 29 (by decide)]; exact k6
    obtain ⟨v5, x1, x2, x3⟩ := q_indexes (M := M) (S := S) (IW_endW e4) hs4 (by show (zS (wrkT s x).2).length ≤ 3; rw [e5]; exact h3) sid
    refine ⟨v5, (wrkT s x).1, ?_, ?_⟩
    · have hstart : n_X3_work_b17 (mput M S u) (some M) x 0 (some M) = n_X3_work_b95 (mput M S v1) (some M) left := by
        simp only [n_X3_work_b17, t0, ob_s, mI_0, hv0, i_le00, if_true, mI_35, mI_1, n3, n1, h60, if_false, mI_36, n4]
        rw [eleft]
        by_cases c : (zN s).2.2.1 = (zN s).1 / 60
        · rw [if_pos c]; exact hb52 _ (by rw [if_pos c])
        · rw [if_neg c]; exact hb52 _ (by rw [if_neg c])
      simp only [Bool.true_eq_false, if_false]
      rw [hstart]
      rw [Int32.sub_zero] at e1
      simp only [n_X3_work_b95, mg_c, gd_t]
      rw [e1]
      simp only [mI_36, mI_34, ob_s, k4, k2, b2i_0]
      have h144 : ∀ y, y = (if (zN (wrkT s x).2).2.1 then (wrkT s x).1 else 0) → n_X3_work_b144 (mput M S v2) (some M) (wrkT s x).1 y (zN (wrkT s x).2).2.2.2.1 (some M) = some ((wrkT s x).1, mput M S v5) := by
        intro y hy
        subst hy
        simp only [n_X3_work_b144, t3, ob_s, o1, mg_c, gd_t, x1, bn_s, rt_i, id]
      rcases Bool.eq_false_or_eq_true (zN (wrkT s x).2).2.1 with c | c
      · rw [if_neg (by rw [c]; decide)]; exact h144 _ (by rw [c]; rfl)
      · rw [if_pos c]; exact h144 _ (by rw [c]; rfl)
    · have e0 : opWork s x sid = (0, (wrkT s x).1, stor (endW (wrkT s x)) sid) := by simp only [opWork, hi, Bool.true_eq_false, if_false]
      rw [e0]
      refine RO_ok x2 ?_
      rw [x3, o2.1 0 (by decide), a3.1 0 (by decide), e2, hv1]
end
