/-! the keeper's calls: notices, twice, lose, crawl, isQuiet, stale, dead -/
section
variable {S S' S1 : St} {g g' : GA} {T U : List Nat} {n m a b c x y t i : Nat} {f f' : Fl} {rs : List RtV} {en : En} {o : Nat → Option Nat} {ac : List AcV} {sg : List SgV} {w : Int64} {nm : Nm} {s : Sg} {rk : Nat → Nat} {k p : Nat} {e : EnV}
theorem KO_x2 {es : List String} {j : Nat} {E : String} (hE : es[j]? = some E) (h : RK g s S) (r : Int32) {x : Int32} (hx : x = nI (j + 1)) (hk : KX [0] [] n g S g S') (hc : n ≤ c) : KO es c g S (some (Sum.inr E, S')) (x, r, s) :=
  ⟨_, _, g, rfl, KX_all hk hc, h.kx0 hk, Or.inr ⟨j, E, hx, hE, rfl⟩⟩
theorem rtA_mem {x : Int32} {r : RtV} (h : rtA rs x = some r) : r ∈ rs ∧ nI r.1 = x := by
  refine ⟨List.mem_of_find?_eq_some h, ?_⟩
  have := List.find?_some h
  simpa using this
theorem k_noticesR (h : RK g s S) (h6 : fMd (zF s) ≤ 60) (hR : RS (zF s) (zR s)) {x : Int32} {r : RtV} (hr : rtA (zR s) x = some r) : ∃ S', n_X1_notices S (some (g.2 1 0)) x = some (Sum.inl (notR r), S') ∧ KX [0] [] 3 g S g S' := by
  obtain ⟨h1, h2, h3, h4, h5, h6', h7, h8⟩ := h
  obtain ⟨S1, e1, x1⟩ := k_rootAt h1 h2 h3 h8 hR h6 x
  have hm := (rtA_mem hr).1
  have r1 := h3.kx x1
  obtain ⟨ts, t1, t2⟩ := rt_q r1 hm
  rw [hr] at e1
  refine ⟨S1, ?_, x1⟩
  simp only [n_X1_notices, h1.cl, gd_t, e1, Option.elim, tbn_s, rt_2 r1 hm, ob_s, b2i_0, rt_1 r1 hm, t1.cl, ll_size t1, bn_s, List.length_map, t2, rt_i, notR]
  rcases Bool.eq_false_or_eq_true r.2.2.1 with b | b <;> simp [b]
theorem k_notices (h : RK g s S) (h6 : fMd (zF s) ≤ 60) (hR : RS (zF s) (zR s)) (x : Int32) : KO [IOE] 10 g S (n_X1_notices S (some (g.2 1 0)) x) (opNotices s x) := by
  cases hr : rtA (zR s) x with
  | none =>
    obtain ⟨S1, e1, x1⟩ := k_rootAt h.1 h.2.1 h.2.2.1 h.2.2.2.2.2.2.2 hR h6 x
    rw [hr] at e1
    simp only [n_X1_notices, h.1.cl, gd_t, e1, Option.elim, tbn_x, opNotices, hr]
    exact KO_x2 (j := 0) rfl h 0 (by decide) x1 (by decide)
  | some r =>
    obtain ⟨S1, e1, x1⟩ := k_noticesR h h6 hR hr
    simp only [opNotices, hr, e1]
    exact KO_s (KX_all x1 (by decide)) (h.kx0 x1)
theorem updR_RS (hR : RS f rs) {a : Nat} {gf : RtV → RtV} (hg : ∀ r, (gf r).1 = r.1) : RS f (updR rs a gf) := by
  refine ⟨by simp [updR]; exact hR.1, fun r hr => ?_⟩
  obtain ⟨r0, h0, rfl⟩ := List.mem_map.mp hr
  split
  · rw [hg]; exact hR.2 _ h0
  · exact hR.2 _ h0
theorem rtA_upd (hN : (rs.map (·.1)).Nodup) {r : RtV} {x : Int32} (hr : rtA rs x = some r) {gf : RtV → RtV} (hg : ∀ r, (gf r).1 = r.1) : rtA (updR rs r.1 gf) x = some (gf r) := by
  obtain ⟨hm, hx⟩ := rtA_mem hr
  unfold rtA at hr ⊢
  unfold updR
  rw [List.find?_map]
  have e : ((fun r : RtV => nI r.1 == x) ∘ fun q => if q.1 = r.1 then gf q else q) = fun r : RtV => nI r.1 == x := by
    funext q
    simp only [Function.comp]
    split
    · rw [hg]
    · rfl
  rw [e, hr]
  simp
theorem k_twice (h : RK g s S) (h6 : fMd (zF s) ≤ 60) (hT : RT (zF s) (zR s)) (hN : ((zR s).map (·.1)).Nodup) (x : Int32) : KO [IOE, ISE] 10 g S (n_X1_twice S (some (g.2 1 0)) x) (opTwice s x) := by
  have hh := h
  obtain ⟨h1, h2, h3, h4, h5, h6', h7, h8⟩ := h
  have hR := hT.toS
  obtain ⟨S1, e1, x1⟩ := k_rootAt h1 h2 h3 h8 hR h6 x
  simp only [n_X1_twice, h1.cl, gd_t, opTwice]
  cases hr : rtA (zR s) x with
  | none =>
    rw [hr] at e1
    simp only [e1, Option.elim, tbn_x]
    exact KO_x2 (j := 0) rfl hh 0 (by decide) x1 (by decide)
  | some r =>
    rw [hr] at e1
    have hm := (rtA_mem hr).1
    have hB := hT.2 r hm
    have H1 := hh.kx0 x1
    have r1 := H1.2.2.1
    obtain ⟨q1, ⟨ts, q2, q3, q4⟩, -⟩ := r1.2.2 r hm
    have h8' := hB.2.1
    simp only [e1, Option.elim, tbn_s, rt_1 r1 hm, ob_s, q2.cl, gd_t, ll_isEmpty q2 (by rw [List.length_map]; omega), bn_s, List.length_map, q3]
    cases hg : r.2.1.getLast? with
    | none =>
      have hl : r.2.1.length = 0 := by rw [List.getLast?_eq_none_iff.mp hg]; rfl
      simp only [hl, if_true, i10, if_false, n_X1_twice_b21, k_poss0, tbn_x]
      exact KO_x2 (j := 1) rfl hh 0 (by decide) (KX_tr x1 (KX_ssk H1.2.2.2.2.2.2.2.2.2.2 (T := [0]) (U := []))) (by decide)
    | some p =>
      have hp := getLast_idx hg
      have hl : ¬ r.2.1.length = 0 := fun z => by
        rw [List.length_eq_zero_iff.mp z] at hg; cases hg
      have hlt : ts.length - 1 < ts.length := by omega
      obtain ⟨tt, htt⟩ : ∃ tt, ts[ts.length - 1]? = some tt := ⟨_, List.getElem?_eq_getElem hlt⟩
      have hgl : (ts.map some).getLast? = some (some tt) := by
        rw [List.getLast?_map, List.getLast?_eq_getElem?, htt]; rfl
      obtain ⟨c1, c2⟩ := q4 _ tt p htt (by rw [q3]; exact hp)
      have g0 : gR S1 (some tt) 2 0 = some (some (S1.2.2.2 (p.1 + 1))) := by rw [gR_e c1]; rfl
      have g1 : gR S1 (some tt) 2 1 = some (some (g.2 2 p.2)) := by rw [gR_e c1]; rfl
      have gc : gcst S1 (some tt) 2 = true := gcst_g (grc_o c1)
      obtain ⟨S2, g2, t1, t2, t3, t4, t5, t6⟩ := k_rtell r1 H1.2.2.2.2.2.2.2.2.2.2 hm hB p.1 p.2
      have et1 := telR_1 p.1 p.2
      have R2 : RKr g2 (updR (zR s) r.1 (telR p.1 p.2)) S2 := by
        refine RKr_upd r1 hN hm (telR p.1 p.2) (et1 r) (fun a h0 ha hb => t5 a h0 (fun e => ?_) (fun e => ?_)) (fun a ha => t2.2.2.1 a ha) (fun t ht => by rw [t3]) (fun i hi => by rw [t3]) t2.cs t6
        · rw [e] at ha; rcases ha with z | z
          · exact z (show (4 : Nat) ∈ [4, 5, 6, 7] by decide)
          · exact z rfl
        · rw [e] at ha; rcases ha with z | z
          · exact z (show (5 : Nat) ∈ [4, 5, 6, 7] by decide)
          · exact z rfl
      have H2 : RK g2 (wR s (updR (zR s) r.1 (telR p.1 p.2))) S2 := ⟨H1.1.kx t2, H1.2.1.kx t2, R2, H1.2.2.2.1.kx t2, H1.2.2.2.2.1.kx t2, H1.2.2.2.2.2.1.kx t2, H1.2.2.2.2.2.2.1.kx t2, H1.2.2.2.2.2.2.2.kx t2 t4⟩
      obtain ⟨S3, u1, u2⟩ := k_noticesR H2 h6 (updR_RS hR (fun r => et1 r)) (rtA_upd hN hr (gf := telR p.1 p.2) (fun r => et1 r))
      rw [t3] at u1
      have cl2 := H2.1.cl
      rw [t3] at cl2
      simp only [hl, if_false, if_true, n_X1_twice_b21, k_poss1, tbn_s, rt_1 r1 hm, ob_s, q2.cl, gd_t, ll_getLast q2 hgl, bn_s, gc, g0, g1, r1.cl hm, t1, cl2, u1, rt_i]
      exact KO_s (KX_n (KX_tr (KX_tr (KX_all x1 (Nat.le_refl _)) (KX_all t2 (Nat.le_refl _))) (KX_all u2 (Nat.le_refl _))) (by decide)) (H2.kx0 u2)
end
