/-! the keeper's calls: empty, lock, people, mayRead, nodes, make -/
section
variable {S S' S1 : St} {g g' : GA} {T U : List Nat} {n m a b c : Nat} {f f' : Fl} {rs : List RtV} {en : En} {o : Nat → Option Nat} {ac : List AcV} {sg : List SgV} {w : Int64} {nm : Nm} {s : Sg} {rk : Nat → Nat} {k p : Nat}
theorem RK_nd (h : RK g s S) (hn : n < fMd (zF s)) (f' : Fl) (e : S1 = sup S (g.2 2 n) (ndC g f' n)) (hmd : fMd f' = fMd (zF s)) (hmk : ∀ j, j < fMd (zF s) → fMk f' j = fMk (zF s) j) (hj : ∀ j, j < fMd (zF s) → j ≠ n → ndC g f' j = ndC g (zF s) j) : RK g (wF s f') S1 ∧ KX [0, 2] [] 0 g S g S1 := by
  obtain ⟨h1, h2, h3, h4, h5, h6, h7, h8⟩ := h
  have c1 : Ch (g.2 2 n) 0 S S1 := by rw [e]; exact Ch_sup _
  have y1 : KX [0, 2] [] 0 g S g S1 := KX_ch1 c1 (h2.2.2 n hn).2.2.1
  exact ⟨⟨h1.kx y1, RKf_nd h2 hn c1 (by rw [e]; exact sup_at _ _ _) hmd hmk hj, h3.kx y1, h4.kx y1, h5.kx y1, h6.kx y1, h7.kx y1, h8.kx y1 (FR_sm h8.2.2.2 y1.le)⟩, y1⟩
theorem k_empty (h : RK g s S) (A : AC (zF s) rk) (h6 : fMd (zF s) ≤ 60) (hT : RT (zF s) (zR s)) (hN : ((zR s).map (·.1)).Nodup) (x : Int32) : KO [IOE, ISE] 10 g S (n_X1_empty S (some (g.2 1 0)) x) (opEmpty s x) := by
  have hh := h
  obtain ⟨h1, h2, h3, h4, h5, h6', h7, h8⟩ := h
  simp only [n_X1_empty, h1.cl, gd_t, k_fileAt h1 h2 h6, opEmpty]
  cases hfi : fiA (zF s) x with
  | none => exact KO_x (j := 0) rfl hh 0 (by decide) (by decide)
  | some n =>
    have hn := fiA_bd h6 hfi
    obtain ⟨k1, k2, k3, k4⟩ := h2.2.2 n hn
    simp only [tbn_s, nd_6 h2 hn, ob_s, b2i_0]
    rcases Bool.eq_false_or_eq_true (fLk (zF s) n) with b1 | b1
    · rw [if_neg (by rw [b1]; decide), if_pos b1]
      simp only [n_X1_empty_b18, k_poss0, tbn_x]
      exact KO_x (j := 1) rfl hh 0 (by decide) (by decide)
    · rw [if_pos b1, if_neg (by rw [b1]; decide)]
      obtain ⟨S2, a1, a2, a3⟩ := al_clear k2
      have x2 : KX [0, 3] [] 0 g S g S2 := KX_ch1 a3 k4
      have hR2 : RK g (wF s (fwMk (zF s) (fu (fMk (zF s)) n []))) S2 := ⟨h1.kx x2, RKf_mk h2 hn a3 a2, h3.kx x2, h4.kx x2, h5.kx x2, h6'.kx x2, h7.kx x2, h8.kx x2 (FR_sm h8.2.2.2 x2.le)⟩
      obtain ⟨S3, g3, w1, w2, w3, w4⟩ := k_written hR2 (n := n) (AC_same A rfl rfl rfl rfl) hT hN hn
      simp only [n_X1_empty_b18, k_poss1, tbn_s, nd_5 h2 hn, ob_s, k2.cl, gd_t, al_size k2, bn_s, List.length_map, a1, hR2.1.cl, w1, rt_i]
      exact KO_s (KX_n (KX_tr (KX_all x2 (Nat.le_refl _)) (KX_all w2 (Nat.le_refl _))) (by decide)) w4
theorem k_lock (h : RK g s S) (h6 : fMd (zF s) ≤ 60) (x : Int32) (b : Bool) : KO [IOE] 10 g S (n_X1_lock S (some (g.2 1 0)) x (b2i b)) (opLock s x b) := by
  have hh := h
  obtain ⟨h1, h2, -⟩ := h
  simp only [n_X1_lock, h1.cl, gd_t, k_fileAt h1 h2 h6, opLock]
  cases hfi : fiA (zF s) x with
  | none => exact KO_x (j := 0) rfl hh 0 (by decide) (by decide)
  | some n =>
    have hn := fiA_bd h6 hfi
    have hc := (h2.2.2 n hn).1
    obtain ⟨S1, e1⟩ : ∃ S1, S1 = sup S (g.2 2 n) (ndC g (fwLk (zF s) (fu (fLk (zF s)) n b)) n) := ⟨_, rfl⟩
    have p1 : pI .boolean S (some (g.2 2 n)) 1 6 (b2i b) = some S1 := by
      simp only [pI, fit_b, if_true, pF_e hc]
      rw [if_pos (by simp), e1]
      refine congrArg some (congrArg (sup S (g.2 2 n)) ?_)
      show _ = cO 1 [_, _, _, _, _, _, vI (b2i (fu (fLk (zF s)) n b n)), _, _]
      rw [fu_s]
      rfl
    obtain ⟨r1, r2⟩ := RK_nd hh hn _ e1 rfl (fun _ _ => rfl) (fun j _ hj => by
      show cO 1 [_, _, _, _, _, _, vI (b2i (fu (fLk (zF s)) n b j)), _, _] = _
      rw [fu_n _ _ hj]; rfl)
    simp only [tbn_s, nd_6 h2 hn, ob_s, p1, rt_b]
    exact KO_s (KX_all r2 (by decide)) r1
theorem k_people (h : RK g s S) (h6 : fMd (zF s) ≤ 60) (x y : Int32) : KO [IOE, IAE] 10 g S (n_X1_people S (some (g.2 1 0)) x y) (opPeople s x y) := by
  have hh := h
  obtain ⟨h1, h2, -⟩ := h
  simp only [n_X1_people, h1.cl, gd_t, k_nodeAt h1 h2 h6, bn_s, opPeople]
  cases hfi : ndA (zF s) x with
  | none =>
    simp only [Option.map_none, if_true, n_X1_people_b15, k_need0, tbn_x]
    exact KO_x (j := 0) rfl hh 0 (by decide) (by decide)
  | some n =>
    have hn := ndA_bd h6 hfi
    have hc := (h2.2.2 n hn).1
    simp only [Option.map_some, reduceCtorEq, if_false, n_X1_people_b15, k_need1, tbn_s, k_isIn, bn_s]
    rcases Bool.eq_false_or_eq_true (inI y 0 15) with b1 | b1
    · simp only [b1, b2i_t, k_check1, tbn_s, nd_7 h2 hn, ob_s]
      obtain ⟨S1, e1⟩ : ∃ S1, S1 = sup S (g.2 2 n) (ndC g (fwPp (zF s) (fu (fPp (zF s)) n y)) n) := ⟨_, rfl⟩
      have p1 : pI .int S (some (g.2 2 n)) 1 7 y = some S1 := by
        rw [pI_e hc, if_pos (by simp), e1]
        refine congrArg some (congrArg (sup S (g.2 2 n)) ?_)
        show _ = cO 1 [_, _, _, _, _, _, _, vI (fu (fPp (zF s)) n y n), _]
        rw [fu_s]
        rfl
      obtain ⟨r1, r2⟩ := RK_nd hh hn _ e1 rfl (fun _ _ => rfl) (fun j _ hj => by
        show cO 1 [_, _, _, _, _, _, _, vI (fu (fPp (zF s)) n y j), _] = _
        rw [fu_n _ _ hj]; rfl)
      simp only [p1, ob_s, rt_i, Bool.true_eq_false, if_false]
      exact KO_s (KX_all r2 (by decide)) r1
    · simp only [b1, b2i_f, k_check0, tbn_x, if_true]
      exact KO_x (j := 1) rfl hh 0 (by decide) (by decide)
theorem k_mayRead (h : RK g s S) (A : AC (zF s) rk) (h6 : fMd (zF s) ≤ 60) (x y : Int32) : KO [IOE] 10 g S (n_X1_mayRead S (some (g.2 1 0)) x y) (opMayRead s x y) := by
  have hh := h
  obtain ⟨h1, h2, -⟩ := h
  simp only [n_X1_mayRead, k_checkPerson, opMayRead]
  rcases Bool.eq_false_or_eq_true (inI x 0 3) with b1 | b1
  · simp only [b1, if_true, tbn_s, h1.cl, gd_t, k_nodeAt h1 h2 h6, bn_s, Bool.true_eq_false, if_false]
    cases hfi : ndA (zF s) y with
    | none =>
      simp only [Option.map_none, if_true, n_X1_mayRead_b19, k_need0, tbn_x]
      exact KO_x (j := 0) rfl hh 0 (by decide) (by decide)
    | some n =>
      have hn := ndA_bd h6 hfi
      simp only [Option.map_some, reduceCtorEq, if_false, n_X1_mayRead_b19, k_need1, tbn_s, h2.cl hn, gd_t, k_mayBeRead h2 A hn, bn_s, rt_b]
      exact KO_s (KX_n (KX_rf (by decide)) (by decide)) hh
  · simp only [b1, Bool.false_eq_true, if_false, tbn_x, if_true]
    exact KO_x (j := 0) rfl hh 0 (by decide) (by decide)
theorem k_nodesO (h : RK g s S) (h6 : fMd (zF s) ≤ 60) : KI 10 g S (n_X1_nodes S (some (g.2 1 0))) (opNodes s) :=
  ⟨S, g, k_nodes h.1 h.2.1 h6, KX_n (KX_rf (by decide)) (by decide), h⟩
/-! make -/
/-- addresses of a new node, and of its marks -/
def adN (g : GA) (n x y : Nat) : GA := (g.1, fun t i => if t = 2 ∧ i = n then x else if t = 3 ∧ i = n then y else g.2 t i)
theorem adN_o (x y : Nat) {t : Nat} (h2 : t ≠ 2) (h3 : t ≠ 3) : (adN g n x y).2 t = g.2 t := by funext i; simp [adN, h2, h3]
theorem adN_n (x y t : Nat) {i : Nat} (h : i ≠ n) : (adN g n x y).2 t i = g.2 t i := by simp [adN, h]
theorem adN_2 (x y : Nat) : (adN g n x y).2 2 n = x := by simp [adN]
theorem adN_3 (x y : Nat) : (adN g n x y).2 3 n = y := by simp [adN]
theorem RKn.adn (h : RKn g nm S) (x y : Nat) : RKn (adN g n x y) nm S := by
  simp only [RKn, adN_o (g := g) (n := n) x y (show (1 : Nat) ≠ 2 by decide) (show (1 : Nat) ≠ 3 by decide), adN_o (g := g) (n := n) x y (show (20 : Nat) ≠ 2 by decide) (show (20 : Nat) ≠ 3 by decide), adN_o (g := g) (n := n) x y (show (21 : Nat) ≠ 2 by decide) (show (21 : Nat) ≠ 3 by decide), adN_o (g := g) (n := n) x y (show (22 : Nat) ≠ 2 by decide) (show (22 : Nat) ≠ 3 by decide), adN_o (g := g) (n := n) x y (show (23 : Nat) ≠ 2 by decide) (show (23 : Nat) ≠ 3 by decide), adN_o (g := g) (n := n) x y (show (24 : Nat) ≠ 2 by decide) (show (24 : Nat) ≠ 3 by decide), adN_o (g := g) (n := n) x y (show (25 : Nat) ≠ 2 by decide) (show (25 : Nat) ≠ 3 by decide)]
  exact h
theorem RKt.adn {r : RtV} (h : RKt g S r) (hB : RB f r) (x y : Nat) : RKt (adN g (fMd f) x y) S r := by
  have hne : ∀ j, j < fMd f → j ≠ fMd f := fun j h e => by omega
  obtain ⟨k1, ⟨ts, k2, k3, k4⟩, k5, k6, k7, k8, k9⟩ := h
  obtain ⟨b1, b2, b3, b4, b5⟩ := hB
  simp only [RKt, RKq, rtC, toldC, adN_o (g := g) (n := fMd f) x y (show (4 : Nat) ≠ 2 by decide) (show (4 : Nat) ≠ 3 by decide), adN_o (g := g) (n := fMd f) x y (show (5 : Nat) ≠ 2 by decide) (show (5 : Nat) ≠ 3 by decide), adN_o (g := g) (n := fMd f) x y (show (6 : Nat) ≠ 2 by decide) (show (6 : Nat) ≠ 3 by decide), adN_o (g := g) (n := fMd f) x y (show (7 : Nat) ≠ 2 by decide) (show (7 : Nat) ≠ 3 by decide), adN_n (g := g) x y 2 (hne _ b1)]
  refine ⟨k1, ⟨ts, k2, k3, fun i t p ht hp => ?_⟩, fun l hl => ?_, k6, k7, k8, k9⟩
  · rw [adN_n x y 2 (hne _ (b3 p (List.mem_of_getElem? hp)).2)]
    exact k4 i t p ht hp
  · have e : (l.map fun k => some ((adN g (fMd f) x y).2 2 k)) = l.map fun k => some (g.2 2 k) := List.map_congr_left fun k hk => by rw [adN_n x y 2 (hne _ ((b5 l hl).2.2 k hk))]
    rw [e]
    exact k5 l hl
theorem RKr.adn (h : RKr g rs S) (hT : RT f rs) (x y : Nat) : RKr (adN g (fMd f) x y) rs S := by
  obtain ⟨k1, k2, k3⟩ := h
  simp only [RKr, adN_o (g := g) (n := fMd f) x y (show (4 : Nat) ≠ 2 by decide) (show (4 : Nat) ≠ 3 by decide), adN_o (g := g) (n := fMd f) x y (show (21 : Nat) ≠ 2 by decide) (show (21 : Nat) ≠ 3 by decide)]
  exact ⟨k1, k2, fun r hr => (k3 r hr).adn (hT.2 r hr) x y⟩
theorem RKe.adn (h : RKe g en o S) (hE : ES f en) (x y : Nat) : RKe (adN g (fMd f) x y) en o S := by
  have hne : ∀ j, j < fMd f → j ≠ fMd f := fun j h e => by omega
  obtain ⟨k1, k2, k3⟩ := h
  simp only [RKe, enC, adN_o (g := g) (n := fMd f) x y (show (22 : Nat) ≠ 2 by decide) (show (22 : Nat) ≠ 3 by decide), adN_o (g := g) (n := fMd f) x y (show (9 : Nat) ≠ 2 by decide) (show (9 : Nat) ≠ 3 by decide), adN_o (g := g) (n := fMd f) x y (show (10 : Nat) ≠ 2 by decide) (show (10 : Nat) ≠ 3 by decide), adN_o (g := g) (n := fMd f) x y (show (12 : Nat) ≠ 2 by decide) (show (12 : Nat) ≠ 3 by decide)]
  refine ⟨k1, k2, fun k e he => ?_⟩
  rw [adN_n x y 2 (hne _ (hE k e he).1), adN_n x y 2 (hne _ (hE k e he).2.1)]
  exact k3 k e he
theorem RKa.adn (h : RKa g ac S) (hB : AB f ac) (x y : Nat) : RKa (adN g (fMd f) x y) ac S := by
  obtain ⟨k1, k2, k3⟩ := h
  simp only [RKa, acC, adN_o (g := g) (n := fMd f) x y (show (23 : Nat) ≠ 2 by decide) (show (23 : Nat) ≠ 3 by decide), adN_o (g := g) (n := fMd f) x y (show (11 : Nat) ≠ 2 by decide) (show (11 : Nat) ≠ 3 by decide)]
  refine ⟨k1, k2, fun a ha => ?_⟩
  rw [adN_n x y 2 (show a.1 ≠ fMd f from fun e => by have := hB.2 a ha; omega)]
  exact k3 a ha
theorem RKs.adn (h : RKs g sg S) (x y : Nat) : RKs (adN g n x y) sg S := by
  simp only [RKs, sgC, adN_o (g := g) (n := n) x y (show (24 : Nat) ≠ 2 by decide) (show (24 : Nat) ≠ 3 by decide), adN_o (g := g) (n := n) x y (show (12 : Nat) ≠ 2 by decide) (show (12 : Nat) ≠ 3 by decide), adN_o (g := g) (n := n) x y (show (13 : Nat) ≠ 2 by decide) (show (13 : Nat) ≠ 3 by decide), adN_o (g := g) (n := n) x y (show (9 : Nat) ≠ 2 by decide) (show (9 : Nat) ≠ 3 by decide)]
  exact h
theorem RKw.adn (h : RKw g w S) (x y : Nat) : RKw (adN g n x y) w S := by
  simp only [RKw, adN_o (g := g) (n := n) x y (show (25 : Nat) ≠ 2 by decide) (show (25 : Nat) ≠ 3 by decide)]
  exact h
end
