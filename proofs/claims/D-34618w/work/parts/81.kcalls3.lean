/-! the keeper's calls: lose, stale, dead -/
section
variable {S S' S1 : St} {g g' : GA} {T U : List Nat} {n m a b c x y t i : Nat} {f f' : Fl} {rs : List RtV} {en : En} {o : Nat → Option Nat} {ac : List AcV} {sg : List SgV} {w : Int64} {nm : Nm} {s : Sg} {rk : Nat → Nat} {k p : Nat} {e : EnV}
theorem take_dl {α : Type} (l : List α) {m : Nat} (h : m + 1 ≤ l.length) : (l.take (m + 1)).dropLast = l.take m := by
  rw [List.dropLast_eq_take, List.take_take, List.length_take]
  congr 1; omega
theorem k_lose (h : RK g s S) (h6 : fMd (zF s) ≤ 60) (hT : RT (zF s) (zR s)) (hN : ((zR s).map (·.1)).Nodup) (x y : Int32) : KO [IOE, IAE] 10 g S (n_X1_lose S (some (g.2 1 0)) x y) (opLose s x y) := by
  have hh := h
  obtain ⟨h1, h2, h3, h4, h5, h6', h7, h8⟩ := h
  have hR := hT.toS
  obtain ⟨S1, e1, x1⟩ := k_rootAt h1 h2 h3 h8 hR h6 x
  simp only [n_X1_lose, h1.cl, gd_t, opLose]
  cases hr : rtA (zR s) x with
  | none =>
    rw [hr] at e1
    simp only [e1, Option.elim, tbn_x]
    exact KO_x2 (j := 0) rfl hh 0 (by decide) x1 (by decide)
  | some r =>
    rw [hr] at e1
    have hm := (rtA_mem hr).1
    have H1 := hh.kx0 x1
    have r1 := H1.2.2.1
    obtain ⟨k1, ⟨ts, q2, q3, q4⟩, k5, k6, k7, k8, k9⟩ := r1.2.2 r hm
    have h8' := (hT.2 r hm).2.1
    simp only [e1, Option.elim, tbn_s, k_isIn, bn_s]
    rcases Bool.eq_false_or_eq_true (inI y 1 8) with b1 | b1
    · obtain ⟨y', hy8, rfl⟩ : ∃ y', y' ≤ 8 ∧ y = nI y' := by
        have hi := b1
        simp only [inI, Bool.and_eq_true, Bool.not_eq_true', decide_eq_false_iff_not] at hi
        have a1 := Int32.le_iff_toInt_le.mp (Int32.not_lt.mp hi.1)
        have a2 := Int32.le_iff_toInt_le.mp (Int32.not_lt.mp hi.2)
        have t1 : (1 : Int32).toInt = 1 := by decide
        have t8 : (8 : Int32).toInt = 8 := by decide
        rw [t1] at a1
        rw [t8] at a2
        have hn : ¬ y < 0 := by rw [Int32.lt_iff_toInt_lt]; simp only [Int32.toInt_zero]; omega
        obtain ⟨j, hj, ej⟩ := nI_of hn
        refine ⟨j, ?_, ej⟩
        have : (nI j).toInt = j := nI_toInt hj
        rw [← ej] at this
        omega
      have hy3 : y' < 2 ^ 31 := by omega
      simp only [b1, b2i_t, k_check1, tbn_s, Bool.true_eq_false, if_false, nI_clamp hy3]
      have n4 : g.2 4 r.1 ≠ g.2 5 r.1 := fun e => by rw [e, k8] at k7; cases k7
      have key := lp_ex (fun m j (c : St) => n_X1_lose_b19 m c (nI y') (some (g.2 4 r.1)) (nI j)) (fun j c => Ch (g.2 5 r.1) 0 S1 c ∧ isLL c (g.2 5 r.1) ((ts.take (ts.length - j)).map some) ∧ j ≤ ts.length) (fun b => ∃ c, b = (Sum.inl (nI (r.2.1.length - y')), c) ∧ Ch (g.2 5 r.1) 0 S1 c ∧ isLL c (g.2 5 r.1) ((ts.take (ts.length - y')).map some)) y' ?_ ?_ FU 0 S1 (Nat.zero_le _) (by simp only [FU]; omega) ⟨Ch_rf, by rw [Nat.sub_zero, List.take_length]; exact q2, Nat.zero_le _⟩
      · obtain ⟨bb, z1, S2, rfl, z2, z3⟩ := key
        rw [nI_0] at z1
        rw [z1]
        have x2 : KX [0, 5] [] 0 g S1 g S2 := KX_ch1 z2 k8
        have o2 := z2.1
        have ne5 : ∀ {z t i}, g.1 z = (t, i) → (t, i) ≠ (5, r.1) → z ≠ g.2 5 r.1 := fun {z t i} hz hne e => by rw [e, k8] at hz; exact hne hz.symm
        have R2 : RKr g (updR (zR s) r.1 (losR y')) S2 := by
          refine RKr_upd r1 hN hm (losR y') rfl (fun a h0 ha hb => o2 a (fun e => ?_)) (fun _ _ => rfl) (fun _ _ => rfl) (fun _ _ => rfl) z2.2.2.2.2 ⟨?_, ⟨ts.take (ts.length - y'), z3, ?_, fun i tt p ht hp => ?_⟩, fun l hl => ?_, ?_, k7, k8, k9⟩
          · rw [e, k8] at ha; rcases ha with z | z
            · exact z (show (5 : Nat) ∈ [4, 5, 6, 7] by decide)
            · exact z rfl
          · show S2.1 (g.2 4 r.1) = some (rtC g r)
            rw [o2 _ n4]; exact k1
          · show _ = (r.2.1.take (r.2.1.length - y')).length
            rw [List.length_take, List.length_take, q3]
          · have hp' : r.2.1[i]? = some p := by
              have : (r.2.1.take (r.2.1.length - y'))[i]? = some p := hp
              rw [List.getElem?_take] at this
              split at this
              · exact this
              · cases this
            have ht' : ts[i]? = some tt := by
              rw [List.getElem?_take] at ht
              split at ht
              · exact ht
              · cases ht
            obtain ⟨y1, y2⟩ := q4 i tt p ht' hp'
            refine ⟨?_, y2⟩
            simp only [toldC, z2.2.2.2.2]
            rw [o2 tt (fun e => by rw [e, k8] at y2; cases y2)]; exact y1
          · obtain ⟨y1, y2⟩ := k5 l hl
            exact ⟨y1.fr (o2 _ (ne5 y2 (by simp))), y2⟩
          · show S2.1 (g.2 7 r.1) = _
            rw [o2 _ (ne5 k9 (by simp))]; exact k6
        exact KO_s (KX_n (KX_tr (KX_all x1 (Nat.le_refl _)) (KX_all x2 (Nat.le_refl _))) (by decide)) ⟨H1.1.kx x2, H1.2.1.kx x2, R2, H1.2.2.2.1.kx x2, H1.2.2.2.2.1.kx x2, H1.2.2.2.2.2.1.kx x2, H1.2.2.2.2.2.2.1.kx x2, H1.2.2.2.2.2.2.2.kx x2 (FR_sm H1.2.2.2.2.2.2.2.2.2.2 x2.le)⟩
      · intro m j c hj ⟨z1, z2, z3⟩
        have g1 : gR c (some (g.2 4 r.1)) 4 1 = some (some (g.2 5 r.1)) := by rw [gR_e (show c.1 (g.2 4 r.1) = some (rtC g r) from (z1.1 _ n4).trans k1)]; rfl
        have hz : ((ts.take (ts.length - j)).map some).length = ts.length - j := by rw [List.length_map, List.length_take]; omega
        have hem := ll_isEmpty z2 (by rw [hz]; omega)
        rw [hz] at hem
        simp only [n_X1_lose_b19, n_X1_lose_b49, nI_leE hy3 (show j < 2 ^ 31 by omega), g1, ob_s, z2.cl, gd_t, hem, bn_s, ll_size z2, hz, rt_i]
        rw [if_neg (by omega)]
        by_cases e0 : ts.length - j = 0
        · refine Or.inr ⟨_, by rw [if_pos e0, if_neg (by decide)], c, ?_, z1, ?_⟩
          · rw [e0, show r.2.1.length - y' = 0 by omega]
          · rw [show ts.length - y' = ts.length - j by omega]; exact z2
        · refine Or.inl ?_
          obtain ⟨q, eq⟩ : ∃ q, ts.length - j = q + 1 := ⟨ts.length - j - 1, by omega⟩
          have hql : q < ts.length := by omega
          have hgl : ((ts.take (ts.length - j)).map some).getLast? = some (some ts[q]) := by
            rw [eq, List.take_succ_eq_append_getElem hql, List.map_append]
            simp
          obtain ⟨c', d1, d2, d3⟩ := ll_removeLast z2 hgl
          refine ⟨c', ⟨Ch_n (Ch_tr z1 d3) (Nat.le_refl _), ?_, by omega⟩, ?_⟩
          · rw [← List.map_dropLast, eq, take_dl ts (by omega)] at d2
            rw [show ts.length - (j + 1) = q by omega]; exact d2
          · rw [if_neg e0, if_pos rfl]
            simp only [g1, ob_s, z2.cl, gd_t, d1, bn_s, nI_1]
      · intro m c ⟨z1, z2, z3⟩
        have g1 : gR c (some (g.2 4 r.1)) 4 1 = some (some (g.2 5 r.1)) := by rw [gR_e (show c.1 (g.2 4 r.1) = some (rtC g r) from (z1.1 _ n4).trans k1)]; rfl
        have hz : ((ts.take (ts.length - y')).map some).length = r.2.1.length - y' := by rw [List.length_map, List.length_take]; omega
        refine ⟨_, ?_, c, rfl, z1, z2⟩
        simp only [n_X1_lose_b19, n_X1_lose_b49, nI_leE hy3 hy3, Nat.le_refl, if_true, g1, ob_s, z2.cl, gd_t, ll_size z2, bn_s, hz, rt_i]
    · simp only [b1, b2i_f, k_check0, tbn_x, if_true]
      exact KO_x2 (j := 1) rfl hh 0 (by decide) (KX_tr x1 (KX_ssk H1.2.2.2.2.2.2.2.2.2.2 (T := [0]) (U := []))) (by decide)
theorem plF_dead (sg : List SgV) : ∀ j, (plF sg j).countP (fun p => p.2.2) = (sg.map fun x => x.2.countP fun p => p.2).sum := by
  induction sg with
  | nil => intro j; rfl
  | cons x l ih =>
    intro j
    simp only [plF, List.countP_append, ih, List.map_cons, List.sum_cons, List.countP_map]
    congr 1
theorem sum_take {l : List Nat} {k : Nat} (hk : k < l.length) : (l.take (k + 1)).sum = (l.take k).sum + l[k] := by
  rw [List.take_succ_eq_append_getElem hk, List.sum_append]; simp
theorem k_dead (h : RK g s S) (h4 : (zS s).length ≤ 4) : KI 10 g S (n_X1_dead S (some (g.2 1 0))) (opDead s) := by
  refine ⟨S, g, ?_, KX_n (KX_rf (by decide)) (by decide), h⟩
  obtain ⟨h1, -, -, -, -, h6, -⟩ := h
  unfold n_X1_dead
  simp only [opDead, plF_dead]
  obtain ⟨D, eD⟩ : ∃ D, D = (zS s).map fun x => x.2.countP fun p => p.2 := ⟨_, rfl⟩
  have hD : D.length = (zS s).length := by rw [eD, List.length_map]
  rw [← eD]
  have key := lp_u0 (fun m k => n_X1_dead_b4 m S (some (g.2 1 0)) (nI (D.take k).sum) (nI k)) (zS s).length (some (nI D.sum, S)) ?_ ?_ (m := FU) (by simp only [FU]; omega)
  · simp only [List.take_zero, List.sum_nil, nI_0] at key
    exact key
  · intro m k hk
    have hk2 : (zS s)[k]? = some (zS s)[k] := List.getElem?_eq_getElem hk
    have hm := List.mem_of_getElem? hk2
    obtain ⟨c1, -⟩ := h6.2.2 _ hm
    have g1 : gI S (some (g.2 12 (zS s)[k].1)) 7 1 = some (nI ((zS s)[k].2.countP fun p => p.2)) := by rw [gI_e c1]; rfl
    have hget := al_get h6.1 (i := k) (by omega) (x := some (g.2 12 (zS s)[k].1)) (by rw [List.getElem?_map, hk2]; rfl)
    simp only [n_X1_dead_b4, kn_4 h1, ob_s, h6.1.cl, gd_t, al_size h6.1, bn_s, List.length_map, nI_leE (show (zS s).length < 2 ^ 31 by omega) (show k < 2 ^ 31 by omega), hget, gcst_g (grc_o c1), g1, nI_1, nI_add]
    rw [if_neg (by omega), sum_take (by omega)]
    have : D[k]'(by omega) = (zS s)[k].2.countP fun p => p.2 := by simp only [eD, List.getElem_map]
    rw [this]
  · intro m
    simp only [n_X1_dead_b4, kn_4 h1, ob_s, h6.1.cl, gd_t, al_size h6.1, bn_s, List.length_map, nI_leE (show (zS s).length < 2 ^ 31 by omega) (show (zS s).length < 2 ^ 31 by omega), Nat.le_refl, if_true, rt_i, id]
    rw [← hD, List.take_length]
end
