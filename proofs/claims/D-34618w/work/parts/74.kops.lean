/-! the keeper's calls: write, empty, lock, people, mayRead, nodes -/
def wrtE (s : Sg) (n : Nat) : Sg := wR (wF s (fwEd (zF s) (fu (fEd (zF s)) n (fEd (zF s) n + 1)))) (telS (zR s) (abv (zF s) (zR s) n) 1 n)
section
variable {S S' S1 : St} {g g' : GA} {T U : List Nat} {n m a b c : Nat} {f f' : Fl} {rs : List RtV} {en : En} {o : Nat → Option Nat} {ac : List AcV} {sg : List SgV} {w : Int64} {nm : Nm} {s : Sg} {rk : Nat → Nat} {k p : Nat}
theorem abv_same {f' : Fl} (h1 : fPa f' = fPa f) (h2 : fGo f' = fGo f) (rs : List RtV) (k : Nat) : abv f' rs k = abv f rs k := by
  simp only [abv, blw, h1, h2]
theorem AC_same {f' : Fl} (A : AC f rk) (h1 : fPa f' = fPa f) (h2 : fMd f' = fMd f) (h3 : fFo f' = fFo f) (h4 : fGo f' = fGo f) : AC f' rk := by
  unfold AC at A ⊢
  simp only [h1, h2, h3, h4]
  exact A
theorem k_written (h : RK g s S) (A : AC (zF s) rk) (hT : RT (zF s) (zR s)) (hN : ((zR s).map (·.1)).Nodup) (hn : n < fMd (zF s)) : ∃ S' g', n_X1_written S (some (g.2 1 0)) (some (g.2 2 n)) = some ((), S') ∧ KX [0, 2, 4, 5] [] 3 g S g' S' ∧ g'.2 = g.2 ∧ RK g' (wrtE s n) S' := by
  obtain ⟨h1, h2, h3, h4, h5, h6, h7, h8⟩ := h
  obtain ⟨f', ef⟩ : ∃ f', f' = fwEd (zF s) (fu (fEd (zF s)) n (fEd (zF s) n + 1)) := ⟨_, rfl⟩
  have hc := (h2.2.2 n hn).1
  have how := (h2.2.2 n hn).2.2.1
  obtain ⟨S1, e1⟩ : ∃ S1, S1 = sup S (g.2 2 n) (ndC g f' n) := ⟨_, rfl⟩
  have p1 : pI .int S (some (g.2 2 n)) 1 4 (nI (fEd (zF s) n) + 1) = some S1 := by
    rw [e1, pI_e hc, if_pos (by simp), nI_1]
    refine congrArg some (congrArg (sup S (g.2 2 n)) ?_)
    rw [ef]
    show _ = cO 1 [_, _, _, _, vI (nI (fu (fEd (zF s)) n (fEd (zF s) n + 1) n)), _, _, _, _]
    rw [fu_s]
    rfl
  have c1 : Ch (g.2 2 n) 0 S S1 := by rw [e1]; exact Ch_sup _
  have x1 : KX [0, 2, 4, 5] [] 0 g S g S1 := KX_ch1 c1 how
  have f1 : RKf g f' S1 := by
    refine RKf_nd h2 hn c1 (by rw [e1]; exact sup_at _ _ _) (by rw [ef]) (fun j _ => by rw [ef]) (fun j _ hj => ?_)
    rw [ef]
    show cO 1 [_, _, _, _, vI (nI (fu (fEd (zF s)) n (fEd (zF s) n + 1) j)), _, _, _, _] = _
    rw [fu_n _ _ hj]
    rfl
  have y1 : KX [0, 2] [] 0 g S g S1 := KX_ch1 c1 how
  have n1 := h1.kx y1
  have r1 := h3.kx y1
  have k1 := h8.kx y1 (FR_sm h8.2.2.2 y1.le)
  have A1 : AC f' rk := by rw [ef]; exact AC_same A rfl rfl rfl rfl
  have hR1 : RS f' (zR s) := by rw [ef]; exact hT.toS
  obtain ⟨S2, a1, a2⟩ := k_above (k := n) n1 f1 r1 k1 A1 hR1 (by rw [ef]; exact hn)
  have ea : abv f' (zR s) n = abv (zF s) (zR s) n := by rw [ef]; exact abv_same rfl rfl _ _
  rw [ea] at a1
  have r2 := r1.kx a2
  obtain ⟨S3, g3, b1, b2, b3, b4, b5⟩ := k_tell r2 (FR_sm k1.2.2.2 a2.le) hT hN (o := abv (zF s) (zR s) n) (fun a ha => abv_in ha) 1 n
  have z2 : KX [0, 2] [] 1 g S g S2 := KX_n (KX_tr y1 (KX_up a2 (by decide) (by decide) (Nat.le_refl _))) (by decide)
  have z3 : KX [0, 2, 4, 5] [] 3 g S g3 S3 := KX_tr (KX_up z2 (by decide) (by decide) (Nat.le_refl _)) (KX_up b2 (by decide) (by decide) (Nat.le_refl _))
  refine ⟨S3, g3, ?_, z3, b3, h1.kx z3, ?_, b5, h4.kx z3, h5.kx z3, h6.kx z3, h7.kx z3, h8.kx z3 b4⟩
  · simp only [n_X1_written, nd_4 h2 hn, ob_s, p1, n1.cl, gd_t, a1, bn_s, (n1.kx a2).cl]
    rw [show S2.2.2.2 2 = S2.2.2.2 (1 + 1) from rfl, b1]
    rfl
  · show RKf g3 (fwEd (zF s) (fu (fEd (zF s)) n (fEd (zF s) n + 1))) S3
    rw [← ef]
    exact (f1.kx a2).kx b2
theorem isMk_iff (x : Int32) : isMk x = (inI x 0 99 || x == -2 || x == -3) := by
  have a1 : (-3 : Int32).toInt = -3 := by decide
  have a2 : (-2 : Int32).toInt = -2 := by decide
  have a3 : (-1 : Int32).toInt = -1 := by decide
  have a4 : (99 : Int32).toInt = 99 := by decide
  have e0 : ∀ y : Int32, (x == y) = decide (x.toInt = y.toInt) := fun y => by rw [Bool.eq_iff_iff]; simp [Int32.toInt_inj]
  have e1 := e0 (-1)
  have e2 := e0 (-2)
  have e3 := e0 (-3)
  rw [a3] at e1
  rw [a2] at e2
  rw [a1] at e3
  simp only [isMk, inI, e1, e2, e3, Int32.lt_iff_toInt_lt, a1, a4, Int32.toInt_zero]
  rw [Bool.eq_iff_iff]
  simp only [Bool.and_eq_true, Bool.or_eq_true, Bool.not_eq_true', decide_eq_false_iff_not, decide_eq_true_eq]
  omega
theorem fiA_bd (h6 : fMd f ≤ 60) {x : Int32} (h : fiA f x = some n) : n < fMd f := (fiA_some h h6).1
theorem k_write (h : RK g s S) (A : AC (zF s) rk) (h6 : fMd (zF s) ≤ 60) (hT : RT (zF s) (zR s)) (hN : ((zR s).map (·.1)).Nodup) (hF : FS (zF s)) (x m : Int32) : KO [IOE, IAE, ISE] 10 g S (n_X1_write S (some (g.2 1 0)) x m) (opWrite s x m) := by
  have hh := h
  obtain ⟨h1, h2, h3, h4, h5, h6', h7, h8⟩ := h
  simp only [n_X1_write, h1.cl, gd_t, k_fileAt h1 h2 h6, opWrite]
  cases hfi : fiA (zF s) x with
  | none => exact KO_x (j := 0) rfl hh 0 (by decide) (by decide)
  | some n =>
    have hn := fiA_bd h6 hfi
    simp only [tbn_s, k_isWord, bn_s, n_X1_write_b25, b2i_0]
    have hbad : KO [IOE, IAE, ISE] 10 g S (n_X1_write_b30 S (some (g.2 1 0)) m (some (g.2 2 n)) 0) (2, 0, s) := by
      simp only [n_X1_write_b30, k_check0, tbn_x]
      exact KO_x (j := 1) rfl hh 0 (by decide) (by decide)
    have hgood : isMk m = true → KO [IOE, IAE, ISE] 10 g S (n_X1_write_b30 S (some (g.2 1 0)) m (some (g.2 2 n)) 1) (if fLk (zF s) n = true ∨ (fMk (zF s) n).length = 20 then (3, 0, s) else (0, nI (fEd (zF s) n + 1), wrtS s n (fMk (zF s) n ++ [m]))) := by
      intro hm
      have hsm := isMk_Sm hm
      have hl := (hF n hn).2
      obtain ⟨k1, k2, k3, k4⟩ := h2.2.2 n hn
      have hbz : KO [IOE, IAE, ISE] 10 g S (n_X1_write_b59 S (some (g.2 1 0)) m (some (g.2 2 n)) 0) (3, 0, s) := by
        simp only [n_X1_write_b59, k_poss0, tbn_x]
        exact KO_x (j := 2) rfl hh 0 (by decide) (by decide)
      simp only [n_X1_write_b30, n_X1_write_b58, k_check1, tbn_s, nd_6 h2 hn, ob_s, b2i_0, nd_5 h2 hn, k2.cl, gd_t, al_size k2, bn_s, List.length_map, li_20, nI_leE (show 20 < 2 ^ 31 by decide) (show (fMk (zF s) n).length < 2 ^ 31 by omega)]
      rcases Bool.eq_false_or_eq_true (fLk (zF s) n) with b1 | b1
      · rw [if_neg (by rw [b1]; decide), if_pos (Or.inl b1)]; exact hbz
      · rw [if_pos b1]
        by_cases e20 : 20 ≤ (fMk (zF s) n).length
        · rw [if_pos e20, if_pos (Or.inr (by omega))]; exact hbz
        · rw [if_neg e20, if_neg (by rw [b1]; simp; omega)]
          obtain ⟨S2, a1, a2, a3⟩ := al_add (c := 6) k2 (x := bxr S m) (okst_g (c := 16) (bx_cl h8 hsm.1 hsm.2) (by decide)) (by rw [List.length_map]; omega) (by decide) (by rw [List.length_map]; omega)
          have x2 : KX [0, 3] [] 6 g S g S2 := KX_ch1 a3 k4
          have hR2 : RK g (wF s (fwMk (zF s) (fu (fMk (zF s)) n (fMk (zF s) n ++ [m])))) S2 := by
            refine ⟨h1.kx x2, RKf_mk h2 hn a3 ?_, h3.kx x2, h4.kx x2, h5.kx x2, h6'.kx x2, h7.kx x2, h8.kx x2 (FR_sm h8.2.2.2 x2.le)⟩
            rw [List.map_append]; exact a2
          obtain ⟨S3, g3, w1, w2, w3, w4⟩ := k_written hR2 (n := n) (AC_same A rfl rfl rfl rfl) hT hN hn
          have g4 : gI S3 (some (g.2 2 n)) 1 4 = some (nI (fEd (zF s) n + 1)) := by
            have := nd_4 w4.2.1 (k := n) hn
            rw [w3] at this
            rw [this]
            show some (nI (fu (fEd (zF s)) n (fEd (zF s) n + 1) n)) = _
            rw [fu_s]
          simp only [n_X1_write_b59, k_poss1, tbn_s, nd_5 h2 hn, ob_s, k_valueOf S hsm.1 hsm.2, bn_s, k2.cl, gd_t, a1, hR2.1.cl, w1, g4, rt_i]
          exact KO_s (KX_n (KX_tr (KX_all x2 (Nat.le_refl _)) (KX_all w2 (Nat.le_refl _))) (by decide)) w4
    rw [isMk_iff] at hgood
    rw [isMk_iff]
    rcases Bool.eq_false_or_eq_true (inI m 0 99) with b1 | b1
    · rw [if_neg (by rw [b1]; decide), if_neg (by rw [b1]; simp)]
      exact hgood (by rw [b1]; rfl)
    · rw [if_pos b1]
      by_cases e2 : m = -2
      · rw [if_pos e2, if_neg (by rw [e2]; simp)]
        exact hgood (by rw [e2]; simp)
      · rw [if_neg e2]
        by_cases e3 : m = -3
        · rw [if_pos e3, if_neg (by rw [e3]; simp)]
          exact hgood (by rw [e3]; simp)
        · rw [if_neg e3, if_pos (by simp [b1, e2, e3])]
          exact hbad
end
