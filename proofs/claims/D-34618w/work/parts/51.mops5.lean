/-! the reference's calls: watching, numbers -/
def rtA (rs : List RtV) (x : Int32) : Option RtV := rs.find? fun r => nI r.1 == x
def opWatch (s : Sg) (x : Int32) : Ro := match foA (zF s) x with
  | none => (1, 0, s)
  | some n => if isR (zR s) n = true then (0, nI ((zR s).length - 1), wA (wR s ((zR s).filter fun r => !(r.1 == n))) (lkA (zE s) (zA s) 60)) else if (zR s).length = 3 ∨ holR (zF s) (zR s) n = true ∨ (abv (zF s) (zR s) n).isSome = true then (2, 0, s) else (0, nI ((zR s).length + 1), wR s (zR s ++ [begR (n, [], false, none, 0)]))
def notR (r : RtV) : Int32 := if r.2.2.1 then -1 else nI r.2.1.length
def opNotices (s : Sg) (x : Int32) : Ro := match rtA (zR s) x with
  | none => (1, 0, s)
  | some r => (0, notR r, s)
def opTwice (s : Sg) (x : Int32) : Ro := match rtA (zR s) x with
  | none => (1, 0, s)
  | some r => match r.2.1.getLast? with
    | none => (2, 0, s)
    | some p => (0, notR (telR p.1 p.2 r), wR s (updR (zR s) r.1 (telR p.1 p.2)))
def losR (k : Nat) (r : RtV) : RtV := (r.1, r.2.1.take (r.2.1.length - k), r.2.2)
def opLose (s : Sg) (x y : Int32) : Ro := match rtA (zR s) x with
  | none => (1, 0, s)
  | some r => if inI y 1 8 = false then (2, 0, s) else (0, nI (r.2.1.length - y.toNatClampNeg), wR s (updR (zR s) r.1 (losR y.toNatClampNeg)))
def nwMi (n : Nm) (v : Int32) : Nm := (v, n.2)
def nwBa (n : Nm) (v : Bool) : Nm := (n.1, v, n.2.2)
def nwLi (n : Nm) (d m : Int32) : Nm := (n.1, n.2.1, n.2.2.1, n.2.2.2.1, d, m)
def nwHo (n : Nm) (h k : Int32) : Nm := (n.1, n.2.1, h, k, n.2.2.2.2)
def opPass (s : Sg) (x : Int32) : Ro := if inI x 1 1000 = false then (1, 0, s) else if (100000 : Int32) < (zN s).1 + x then (2, 0, s) else (0, (zN s).1 + x, wN s (nwMi (zN s) ((zN s).1 + x)))
def opBattery (s : Sg) (b : Bool) : Ro := (0, b2i (zN s).2.1, wN s (nwBa (zN s) b))
def opLimits (s : Sg) (x y : Int32) : Ro := if inI x 0 3 = true ∧ inI y 1 20 = true then (0, (zN s).2.2.2.2.2, wN s (nwLi (zN s) x y)) else (1, 0, s)
def opCrawl (s : Sg) (x : Int32) : Ro := match rtA (zR s) x with
  | none => (1, 0, s)
  | some r => (0, nI ((updR (zR s) r.1 begR).countP fun r => r.2.2.2.1.isSome), wR s (updR (zR s) r.1 begR))
def opActs (s : Sg) : Ro := (0, nI (zA s).length, s)
def opQuiet (s : Sg) : Ro := (0, b2i ((zA s).isEmpty && (tellg (zR s)).isNone && (crwlg (zR s)).isNone), s)
def opEntries (s : Sg) : Ro := (0, nI (cnB (fun k => (zE s k).isSome) 60), s)
def opEdition (s : Sg) (x : Int32) : Ro := if inI x 0 (nI (fMd (zF s)) - 1) = false then (1, 0, s) else match zE s x.toNatClampNeg with
  | none => (0, -1, s)
  | some e => (0, nI e.2.2.1, s)
def stlB (s : Sg) (k : Nat) : Bool := if (abv (zF s) (zR s) k).isSome then !fFo (zF s) k && !kno (zF s) (zE s) k else (zE s k).isSome
def opStale (s : Sg) : Ro := (0, nI (cnB (stlB s) (fMd (zF s))), s)
def opSegments (s : Sg) : Ro := (0, nI (zS s).length, s)
def opDead (s : Sg) : Ro := (0, nI ((plF (zS s) 0).countP fun p => p.2.2), s)
section
variable {M : Nat} {S : St} {u v w : MM} {f f' : Fl} {rs rs' : List RtV} {en : En} {ac : List AcV} {s : Sg} {rk rk' : Nat → Nat}
theorem q_rootAtX (h : RMr rs u) (hR : RS f rs) (h6 : fMd f ≤ 60) (x : Int32) : n_X3_rootAt (mput M S u) (some M) x = some (prI (lst (fun r => nI r.1 == x) rs rs.length), mput M S u) := by
  unfold n_X3_rootAt
  refine lp_u0 (fun m k => n_X3_rootAt_b4 m (mput M S u) (some M) x (prI (lst (fun r => nI r.1 == x) rs k)) (nI k)) rs.length _ ?_ ?_ (m := FU) (by have := hR.1; simp only [FU]; omega)
  · intro m k hk
    have h3 := hR.1
    have hk2 : rs[k]? = some rs[k] := List.getElem?_eq_getElem hk
    simp only [n_X3_rootAt_b4, n_X3_rootAt_b27, mI_12, ob_s, h.1, mR_13, ma_9 (show k < 4 by omega), h.at hk2, nI_leE (show rs.length < 2 ^ 31 by omega) (show k < 2 ^ 31 by omega), nI_1]
    rw [if_neg (by omega)]
    simp only [lst, hk2, beq_iff_eq]
    split <;> rfl
  · intro m
    simp only [n_X3_rootAt_b4, mI_12, ob_s, h.1, nI_leE (show rs.length < 2 ^ 31 by have := hR.1; omega) (show rs.length < 2 ^ 31 by have := hR.1; omega), Nat.le_refl, if_true, rt_i, id]
theorem rtA_some (hT : RT f rs) (hN : RN f rs) (h6 : fMd f ≤ 60) {x : Int32} {i : Nat} (h : lst (fun r => nI r.1 == x) rs rs.length = some i) : ∃ r, rs[i]? = some r ∧ rtA rs x = some r ∧ nI r.1 = x := by
  obtain ⟨-, r, hr, hp⟩ := lst_some h
  have hp : nI r.1 = x := by simpa using hp
  refine ⟨r, hr, ?_, hp⟩
  unfold rtA
  cases hf : rs.find? (fun r => nI r.1 == x) with
  | none => exact absurd (by simp [hp]) (List.find?_eq_none.mp hf r (List.mem_of_getElem? hr))
  | some r' =>
    have h1 := List.find?_some hf
    have h1 : nI r'.1 = x := by simpa using h1
    have hm := List.mem_of_find?_eq_some hf
    obtain ⟨j, hj⟩ := List.mem_iff_getElem?.mp hm
    have b1 := (hT.2 r (List.mem_of_getElem? hr)).1
    have b2 := (hT.2 r' hm).1
    have e : r.1 = r'.1 := (nI_eq (by omega) (by omega)).mp (hp.trans h1.symm)
    have := hN.inj hr hj e
    subst this
    rw [hr] at hj; exact hj.symm
theorem rtA_none {x : Int32} (h : lst (fun r => nI r.1 == x) rs rs.length = none) : rtA rs x = none := by
  refine List.find?_eq_none.mpr fun r hr => ?_
  obtain ⟨i, hi⟩ := List.mem_iff_getElem?.mp hr
  have := lst_none h i r (List.getElem?_eq_some_iff.mp hi).1 hi
  simp [this]
theorem flt_erase (hN : RN f rs) {i : Nat} {r : RtV} (hi : rs[i]? = some r) : (rs.filter fun r' => !(r'.1 == r.1)) = rs.eraseIdx i := by
  have hil := (List.getElem?_eq_some_iff.mp hi).1
  have hg : rs[i] = r := (List.getElem?_eq_some_iff.mp hi).2
  have e : rs = rs.take i ++ (rs[i] :: rs.drop (i + 1)) := by rw [List.getElem_cons_drop, List.take_append_drop]
  have hlen : (rs.take i).length = i := by simp; omega
  conv => lhs; rw [e]
  rw [List.filter_append, List.filter_cons, hg]
  simp only [beq_self_eq_true, Bool.not_true, Bool.false_eq_true, if_false]
  rw [List.eraseIdx_eq_take_drop_succ]
  have h1 : (rs.take i).filter (fun r' => !(r'.1 == r.1)) = rs.take i := by
    refine List.filter_eq_self.mpr fun a ha => ?_
    obtain ⟨j, hj⟩ := List.mem_iff_getElem?.mp ha
    have hjl := (List.getElem?_eq_some_iff.mp hj).1
    rw [List.getElem?_take] at hj
    split at hj
    · next hji =>
      have : a.1 ≠ r.1 := fun z => by have := hN.inj hj hi z; omega
      simp [this]
    · cases hj
  have h2 : (rs.drop (i + 1)).filter (fun r' => !(r'.1 == r.1)) = rs.drop (i + 1) := by
    refine List.filter_eq_self.mpr fun a ha => ?_
    obtain ⟨j, hj⟩ := List.mem_iff_getElem?.mp ha
    rw [List.getElem?_drop] at hj
    have : a.1 ≠ r.1 := fun z => by have := hN.inj hj hi z; omega
    simp [this]
  rw [h1, h2]
theorem RB_beg {r : RtV} (h : RB f r) : RB f (begR r) := ⟨h.1, h.2.1, h.2.2.1, h.2.2.2.1, fun l hl => by
  simp only [begR, Option.some.injEq] at hl
  subst hl
  exact ⟨by simp, by simp, fun x hx => by simp at hx; subst hx; exact h.1⟩⟩
theorem q_watch (h : RA s u) (A : AC (zF s) rk) (h6 : fMd (zF s) ≤ 60) (hT : RT (zF s) (zR s)) (hN : RN (zF s) (zR s)) (hB : AB (zF s) (zA s)) (hE : ES (zF s) (zE s)) (x : Int32) : ∃ v b, n_X3_watch (mput M S u) (some M) x = some (b, mput M S v) ∧ RO (opWatch s x) b v := by
  have hh := h
  obtain ⟨⟨hf, hr, he, ha, hs, hw, hnn⟩, hz⟩ := h
  have h3 := hT.1
  simp only [n_X3_watch, mg_c, gd_t, q_isFolderAt hf h6, bn_s, b2i_0]
  cases hp : foA (zF s) x with
  | none =>
    refine ⟨ui u 0 1, 0, ?_, ?_⟩
    · simp only [Option.isSome_none, if_true, q_fails, bn_s, rt_i, id]
    · simp only [opWatch, hp]; exact RO_fail hh 1 0 (by decide)
  | some n =>
    obtain ⟨n1, rfl, n2, n3⟩ := foA_some hp h6
    have n60 : n < 60 := by omega
    simp only [Option.isSome_some, Bool.true_eq_false, if_false, q_rootAt hr hT.toS h6 n60, bn_s]
    simp only [opWatch, hp]
    have hn3 : ∀ k, fMd (zF s) ≤ k → zE s k = none := fun k hk => by
      cases hek : zE s k with
      | none => rfl
      | some e => have := (hE k e hek).1; omega
    obtain ⟨v0, z0⟩ : ∃ x, x = ui u 0 0 := ⟨_, rfl⟩
    have t0 := mw_0 (M := M) (S := S) (u := u) (x := 0)
    rw [← z0] at t0
    have hag0 : Ag [0] [] u v0 := by rw [z0]; exact Ag_ui u _ (by decide)
    have e00 : v0.1 0 = 0 := by rw [z0, ui_1, if_pos rfl]
    cases hl : lst (fun r : RtV => r.1 == n) (zR s) (zR s).length with
    | some i =>
      have hiR : isR (zR s) n = true := by
        have := lst_any (fun r : RtV => r.1 == n) (zR s)
        rw [hl] at this; exact this.symm
      rw [if_pos hiR]
      obtain ⟨hil, r, hri, hpr⟩ := lst_some hl
      have hpr : r.1 = n := by simpa using hpr
      obtain ⟨v1, d1, d2, d3⟩ := q_drops (M := M) (S := S) (hr.ag hag0) hT h6 hil
      obtain ⟨v2, g1, g2, g3, g4⟩ := q_looksAtLost (M := M) (S := S) ((hf.ag hag0).ag d2) ((he.ag hag0).ag d2) ((ha.ag hag0).ag d2) hB h6
      have hfe := flt_erase hN hri
      rw [hpr] at hfe
      have hlen : v2.1 12 = nI ((zR s).length - 1) := by
        rw [g2.1 12 (by decide), d3.1, List.length_eraseIdx, if_pos hil]
      refine ⟨v2, nI ((zR s).length - 1), ?_, RO_ok ⟨⟨((hf.ag hag0).ag d2).ag g2, ?_, ((he.ag hag0).ag d2).ag g2, ?_, ((hs.ag hag0).ag d2).ag g2, ((hw.ag hag0).ag d2).ag g2, ((hnn.ag hag0).ag d2).ag g2⟩, ((hz.ag hag0).ag d2).ag g2⟩ ?_⟩
      · simp only [prI_s, nI_e1 (show i < 2 ^ 31 by omega), if_false, n_X3_watch_b55, n_X3_watch_b56, t0, ob_s, mI_0, e00]
        rw [if_pos i_le00]
        simp only [mg_c, gd_t, d1, bn_s, g1, n_X3_watch_b135, mI_12, ob_s, hlen, rt_i, id]
      · show RMr ((zR s).filter fun r => !(r.1 == n)) v2
        rw [hfe]; exact d3.ag g2
      · show RMa (lkA (zE s) (zA s) 60) v2
        rw [lkA_ext hn3 h6]; exact g3
      · rw [g2.1 0 (by decide), d2.1 0 (by decide), e00]
    | none =>
      have hiR : isR (zR s) n = false := by rw [← lst_isR]; exact hl
      have e51 : n_X3_watch_b51 (mput M S u) (some M) (nI n) (-1) (some M) = some (0, mput M S (ui u 0 2)) := by
        simp only [n_X3_watch_b51, n_X3_watch_b56, mw_0, ob_s, mI_0, ui_1, if_true, i_nle0_2, if_false, rt_i, id]
      have e1 : (prI (ovr (zF s) (zR s) n) = -1) = ((abv (zF s) (zR s) n).isSome = false) := by
        rw [prI_none (ovr_bd hT.toS n), ← ovr_iff A hN n1]
        cases ovr (zF s) (zR s) n <;> simp
      simp only [hiR, Bool.false_eq_true, if_false, prI_n, if_true, mI_12, ob_s, hr.1, li_3, nI_eqE (show (zR s).length < 2 ^ 31 by omega) (show 3 < 2 ^ 31 by decide), q_holdsRoot hf A hr hT.toS h6 n1, bn_s, b2i_0, mg_c, gd_t, q_over hf A hr hT.toS h6 n1, e1, e51]
      by_cases hc : (zR s).length = 3 ∨ holR (zF s) (zR s) n = true ∨ (abv (zF s) (zR s) n).isSome = true
      · rw [if_pos hc]
        refine ⟨ui u 0 2, 0, ?_, RO_fail hh 2 0 (by decide)⟩
        by_cases c1 : (zR s).length = 3
        · simp [c1]
        · rcases Bool.eq_false_or_eq_true (holR (zF s) (zR s) n) with c2 | c2
          · simp [c1, c2]
          · have c3 : (abv (zF s) (zR s) n).isSome = true := by
              rcases hc with z | z | z
              · exact absurd z c1
              · rw [c2] at z; cases z
              · exact z
            simp [c1, c2, c3]
      · rw [if_neg hc]
        have c1 : ¬ (zR s).length = 3 := fun z => hc (Or.inl z)
        have c2 : holR (zF s) (zR s) n = false := by simpa using fun z => hc (Or.inr (Or.inl z))
        have c3 : (abv (zF s) (zR s) n).isSome = false := Bool.eq_false_iff.mpr fun z => hc (Or.inr (Or.inr z))
        simp only [c1, c2, c3, if_false, if_true]
        obtain ⟨L, eL⟩ : ∃ L, L = (zR s).length := ⟨_, rfl⟩
        have L4 : L < 4 := by omega
        rw [← eL]
        obtain ⟨v1, z1⟩ : ∃ x, x = ua v0 9 L (nI n) := ⟨_, rfl⟩
        obtain ⟨v2, z2⟩ : ∃ x, x = ua v1 10 L 0 := ⟨_, rfl⟩
        obtain ⟨v3, z3⟩ : ∃ x, x = ua v2 13 L (b2i false) := ⟨_, rfl⟩
        obtain ⟨v4, z4⟩ : ∃ x, x = ui v3 12 (nI (L + 1)) := ⟨_, rfl⟩
        have t1 := ms_9 (M := M) (S := S) (u := v0) (x := nI n) L4
        have t2 := ms_10 (M := M) (S := S) (u := v1) (x := 0) L4
        have t3 := ms_13 (M := M) (S := S) (u := v2) false L4
        have t4 := mw_12 (M := M) (S := S) (u := v3) (x := nI (L + 1))
        rw [← z1] at t1
        rw [← z2] at t2
        rw [← z3] at t3
        rw [← z4] at t4
        have hag4 : Ag [0, 12] [9, 10, 13] u v4 := by
          rw [z4, z3, z2, z1]
          exact Ag_tr (Ag_tr (Ag_tr (Ag_tr (Ag_up hag0 (by decide) (by decide)) (Ag_ua _ _ _ (by decide))) (Ag_ua _ _ _ (by decide))) (Ag_ua _ _ _ (by decide))) (Ag_ui _ _ (by decide))
        have l0 : v0.1 12 = nI L := by rw [hag0.1 12 (by decide), hr.1, eL]
        have l3 : v3.1 12 = nI L := by rw [z3, z2, z1]; exact l0
        have l4 : v4.1 12 = nI (L + 1) := by rw [z4, ui_1, if_pos rfl]
        have hT4 : RT (zF s) (zR s ++ [((n, [], false, none, 0) : RtV)]) := by
          refine ⟨by simp; omega, fun r hr => ?_⟩
          rcases List.mem_append.mp hr with z | z
          · exact hT.2 r z
          · simp at z; subst z
            exact ⟨n1, by simp, by simp, by simp, by simp⟩
        obtain ⟨v5, b1, b2, b3⟩ := q_beginsCrawl_g (M := M) (S := S) (u := v4) (rs := zR s ++ [((n, [], false, none, 0) : RtV)]) (i := L) (r := (n, [], false, none, 0)) (by rw [l4, List.length_append, ← eL]; rfl) hT4 h6 (by rw [List.getElem?_append_right (by omega), ← eL]; simp) (fun j r0 hj hr0 => by
          rw [List.getElem?_append] at hr0
          split at hr0
          · next hjl =>
            have hB0 := hT.2 r0 (List.mem_of_getElem? hr0)
            refine RRt_loc (hr.2 j r0 hr0) hB0.2.1 (fun l hl => hB0.cl h6 hl) ?_ ?_ ?_
            · intro p hp
              simp only [List.mem_cons, List.not_mem_nil, or_false] at hp
              rcases hp with rfl | rfl | rfl | rfl | rfl <;> simp [z4, z3, z2, z1, z0, ua_2, ui_2, hj]
            · intro p hp q hq
              simp only [List.mem_cons, List.not_mem_nil, or_false] at hp
              rcases hp with rfl | rfl <;> simp [z4, z3, z2, z1, z0, ua_2, ui_2]
            · intro p hp q hq
              simp only [List.mem_cons, List.not_mem_nil, or_false] at hp
              rcases hp with rfl | rfl <;> simp [z4, z3, z2, z1, z0, ua_2, ui_2]
          · next hjl =>
            have := (List.getElem?_eq_some_iff.mp hr0).1
            simp at this
            omega) (by simp [z4, z3, z2, z1, ua_2, ui_2]) (by simp [z4, z3, z2, ua_2, ui_2, nI_0]) (fun q p hp => by simp at hp) (by simp [z4, z3, ua_2, ui_2])
        have hset : (zR s ++ [((n, [], false, none, 0) : RtV)]).set L (begR (n, [], false, none, 0)) = zR s ++ [begR (n, [], false, none, 0)] := by
          rw [List.set_append_right _ _ (by omega), ← eL]; simp
        rw [hset] at b3
        refine ⟨v5, nI (L + 1), ?_, RO_ok ⟨⟨(hf.ag hag4).ag b2, b3, (he.ag hag4).ag b2, (ha.ag hag4).ag b2, (hs.ag hag4).ag b2, (hw.ag hag4).ag b2, (hnn.ag hag4).ag b2⟩, (hz.ag hag4).ag b2⟩ ?_⟩
        · simp only [n_X3_watch_b55, n_X3_watch_b56, t0, ob_s, mI_0, e00]
          rw [if_pos i_le00]
          simp only [if_true, mR_13, mI_12, ob_s, l0, t1, mR_14]
          rw [show v1.1 12 = nI L by rw [z1]; exact l0]
          simp only [t2, ob_s, mR_17, mI_12]
          rw [show v2.1 12 = nI L by rw [z2, z1]; exact l0, show (0 : Int32) = b2i false from rfl]
          simp only [t3, ob_s, mI_12, l3, nI_1, t4, l4, nI_pred, mg_c, gd_t, b1, bn_s, n_X3_watch_b135]
          rw [b2.1 12 (by decide), l4]
          simp only [rt_i, id]
        · rw [b2.1 0 (by decide), z4, ui_1, if_neg (by decide), z3, z2, z1]
          exact e00
end
