/-! the keeper's call make -/
section
variable {S S' S1 : St} {g g' : GA} {T U : List Nat} {n m a b c x y : Nat} {f f' : Fl} {rs : List RtV} {en : En} {o : Nat → Option Nat} {ac : List AcV} {sg : List SgV} {w : Int64} {nm : Nm} {s : Sg} {rk : Nat → Nat} {k p : Nat}
theorem sup_1b (S : St) (q : Nat) (e : CE) : (sup S q e).2.1 = S.2.1 := rfl
theorem spu_1b (S : St) (e : CE) (n : Nat) : (spu S e n).2.1 = S.2.1 + 1 := rfl
theorem k_ndInit (h : S.1 x = some (cO 1 [vI 0, vI 0, vR none, vI 0, vI 0, vR none, vI 0, vI 0, vI 0])) (hx : x < S.2.1) (v : Int32) (b : Bool) : ∃ S', n_X2_init S (some x) v (b2i b) = some ((), S') ∧ S'.1 x = some (cO 1 [vI v, vI (b2i b), vR none, vI 0, vI 1, vR (some S.2.1), vI 0, vI 15, vI 0]) ∧ isAL S' S.2.1 [] ∧ (∀ a, a ≠ x → a ≠ S.2.1 → S'.1 a = S.1 a) ∧ S'.2.1 = S.2.1 + 1 ∧ S'.2.2.1 = S.2.2.1 + 3 ∧ S'.2.2.2 = S.2.2.2 := by
  obtain ⟨y, ey⟩ : ∃ y, y = S.2.1 := ⟨_, rfl⟩
  have hxy : x ≠ y := by omega
  obtain ⟨S1, e1⟩ : ∃ S1, S1 = sup S x (cO 1 [vI 0, vI 0, vR none, vI 0, vI 1, vR none, vI 0, vI 0, vI 0]) := ⟨_, rfl⟩
  have p1 : pI .int S (some x) 1 4 1 = some S1 := by rw [e1, pI_e h, if_pos (by simp)]; rfl
  have y1 : S1.2.1 = y := by rw [e1, ey]; rfl
  have c1 : S1.1 x = some (cO 1 [vI 0, vI 0, vR none, vI 0, vI 1, vR none, vI 0, vI 0, vI 0]) := by rw [e1]; exact sup_at _ _ _
  obtain ⟨S2, e2⟩ : ∃ S2, S2 = spu S1 (cO 8 [vI 0, vR none, vI 0]) 3 := ⟨_, rfl⟩
  have c2 : S2.1 y = some (cO 8 [vI 0, vR none, vI 0]) := by rw [e2, ← y1]; exact spu_at _ _ _
  have o2 : ∀ a, a ≠ y → S2.1 a = S1.1 a := fun a ha => by rw [e2]; simp only [spu, y1, if_neg ha]
  obtain ⟨S3, i1, i2, i3⟩ := al_init c2 rfl
  have c3 : S3.1 x = some (cO 1 [vI 0, vI 0, vR none, vI 0, vI 1, vR none, vI 0, vI 0, vI 0]) := by rw [i3.1 _ hxy, o2 _ hxy]; exact c1
  obtain ⟨S4, e4⟩ : ∃ S4, S4 = sup S3 x (cO 1 [vI 0, vI 0, vR none, vI 0, vI 1, vR (some y), vI 0, vI 0, vI 0]) := ⟨_, rfl⟩
  have p4 : pR S3 (some x) 1 5 (some y) = some S4 := by rw [e4, pR_e c3, if_pos (by simp)]; rfl
  have c4 : S4.1 x = some (cO 1 [vI 0, vI 0, vR none, vI 0, vI 1, vR (some y), vI 0, vI 0, vI 0]) := by rw [e4]; exact sup_at _ _ _
  obtain ⟨S5, e5⟩ : ∃ S5, S5 = sup S4 x (cO 1 [vI 0, vI 0, vR none, vI 0, vI 1, vR (some y), vI 0, vI 15, vI 0]) := ⟨_, rfl⟩
  have p5 : pI .int S4 (some x) 1 7 15 = some S5 := by rw [e5, pI_e c4, if_pos (by simp)]; rfl
  have c5 : S5.1 x = some (cO 1 [vI 0, vI 0, vR none, vI 0, vI 1, vR (some y), vI 0, vI 15, vI 0]) := by rw [e5]; exact sup_at _ _ _
  obtain ⟨S6, e6⟩ : ∃ S6, S6 = sup S5 x (cO 1 [vI v, vI 0, vR none, vI 0, vI 1, vR (some y), vI 0, vI 15, vI 0]) := ⟨_, rfl⟩
  have p6 : pI .int S5 (some x) 1 0 v = some S6 := by rw [e6, pI_e c5, if_pos (by simp)]; rfl
  have c6 : S6.1 x = some (cO 1 [vI v, vI 0, vR none, vI 0, vI 1, vR (some y), vI 0, vI 15, vI 0]) := by rw [e6]; exact sup_at _ _ _
  obtain ⟨S7, e7⟩ : ∃ S7, S7 = sup S6 x (cO 1 [vI v, vI (b2i b), vR none, vI 0, vI 1, vR (some y), vI 0, vI 15, vI 0]) := ⟨_, rfl⟩
  have p7 : pI .boolean S6 (some x) 1 1 (b2i b) = some S7 := by
    simp only [pI, fit_b, if_true, pF_e c6]
    rw [if_pos (by simp), e7]; rfl
  have eS : S7 = sup S3 x (cO 1 [vI v, vI (b2i b), vR none, vI 0, vI 1, vR (some y), vI 0, vI 15, vI 0]) := by rw [e7, e6, e5, e4, sup_sup, sup_sup, sup_sup]
  have s3 : S3.2.1 = S.2.1 + 1 ∧ S3.2.2.1 = S.2.2.1 + 3 := by
    have h1 := i3.2.1; have h2 := i3.2.2.1; have h3 := i3.2.2.2.1
    have a1 : S2.2.1 = S.2.1 + 1 := by rw [e2, e1]; rfl
    have a2 : S2.2.2.1 = S.2.2.1 + 3 := by rw [e2, e1]; rfl
    have i4 : S3.2 = S2.2 := by
      simp only [h_J2_init, gobj_e c2, ob_s, if_true, Option.some.injEq, Prod.mk.injEq, true_and] at i1
      rw [← i1]; rfl
    rw [i4]; exact ⟨a1, a2⟩
  refine ⟨S7, ?_, by rw [e7, ← ey]; exact sup_at _ _ _, ?_, fun a h1 h2 => ?_, by rw [eS]; exact s3.1, by rw [eS]; exact s3.2, ?_⟩
  · simp only [n_X2_init, Option.isSome_some, gd_t, p1, ob_s, nwB_e, y1, ← e2, i1, bn_s, p4, p5, p6, p7]
  · rw [← ey, eS]
    exact i2.fr (sup_ne _ _ (Ne.symm hxy))
  · rw [← ey] at h2
    rw [eS, sup_ne _ _ h1, i3.1 _ h2, o2 _ h2, e1, sup_ne _ _ h1]
  · rw [eS, show (sup S3 x _).2.2.2 = S3.2.2.2 from rfl, i3.2.2.2.2, e2, e1]; rfl
theorem k_make (h : RK g s S) (A : AC (zF s) rk) (h6 : fMd (zF s) ≤ 60) (hT : RT (zF s) (zR s)) (hE : ES (zF s) (zE s)) (hB : AB (zF s) (zA s)) (x nm : Int32) (b : Bool) (hx : ∀ p, foA (zF s) x = some p → fMd (zF s) < 60 → (∃ rk', AC (mkF (zF s) p nm b) rk') ∧ RT (mkF (zF s) p nm b) (zR s) ∧ ((zR s).map (·.1)).Nodup) : KO [IOE, IAE, ISE] 30 g S (n_X1_make S (some (g.2 1 0)) x nm (b2i b)) (opMake s x nm b) := by
  have hh := h
  obtain ⟨h1, h2, h3, h4, h5, h6', h7, h8⟩ := h
  simp only [n_X1_make, h1.cl, gd_t, k_folderAt h1 h2 h6, opMake]
  cases hfo : foA (zF s) x with
  | none => exact KO_x (j := 0) rfl hh 0 (by decide) (by decide)
  | some p =>
    have hp : p < fMd (zF s) := (foA_some hfo h6).1
    simp only [tbn_s, k_isName, bn_s]
    rcases Bool.eq_false_or_eq_true (inI nm 97 122) with b1 | b1
    · simp only [b1, b2i_t, k_check1, tbn_s, h1.cl, gd_t]
      have ht := k_isTaken h1 h2 A h6 hp nm none (fun _ h => by cases h)
      rw [Option.map_none] at ht
      simp only [ht, bn_s, b2i_0, kn_0 h1, ob_s, h2.1.cl, gd_t, ndl_size h2, li_60, nI_leE (show 60 < 2 ^ 31 by decide) (show fMd (zF s) < 2 ^ 31 by omega)]
      have hbad : KO [IOE, IAE, ISE] 30 g S (n_X1_make_b43 S (some (g.2 1 0)) nm (b2i b) (some (g.2 2 p))) (3, 0, s) := by
        simp only [n_X1_make_b43, n_X1_make_b44, k_poss0, tbn_x]
        exact KO_x (j := 2) rfl hh 0 (by decide) (by decide)
      rw [if_neg (show ¬ true = false by decide)]
      rcases Bool.eq_false_or_eq_true (tkn (zF s) p nm none) with b2 | b2
      · rw [if_neg (by rw [b2]; decide), if_pos (Or.inl b2)]; exact hbad
      · rw [if_pos b2]
        by_cases e60 : 60 ≤ fMd (zF s)
        · rw [if_pos e60, if_pos (Or.inr (by omega))]; exact hbad
        · rw [if_neg e60, if_neg (by rw [b2]; simp; omega)]
          obtain ⟨⟨rk', A'⟩, hT', hN'⟩ := hx p hfo (by omega)
          obtain ⟨n, en⟩ : ∃ n, n = fMd (zF s) := ⟨_, rfl⟩
          obtain ⟨X, eX⟩ : ∃ X, X = S.2.1 := ⟨_, rfl⟩
          have hF := h8.2.2.2
          have z0 : ∀ a, X ≤ a → (g.1 a).1 = 0 := fun a ha => hF a (by omega)
          have ne : ∀ {z t i}, g.1 z = (t, i) → t ≠ 0 → z < X := fun {z t i} hz ht => by rw [eX]; exact ow_lt hF hz ht
          obtain ⟨S1, e1⟩ : ∃ S1, S1 = spu S (cO 1 [vI 0, vI 0, vR none, vI 0, vI 0, vR none, vI 0, vI 0, vI 0]) 9 := ⟨_, rfl⟩
          have c1 : S1.1 X = some (cO 1 [vI 0, vI 0, vR none, vI 0, vI 0, vR none, vI 0, vI 0, vI 0]) := by rw [e1, eX]; exact spu_at _ _ _
          have x1 : KX [0] [] 2 g S g S1 := by rw [e1]; exact KX_new hF (Ch_spu _ (by omega) (by omega)) (by decide)
          have hS1 : S1.2.1 = X + 1 := by rw [e1, eX]; rfl
          obtain ⟨S2, i1, i2, i3, i4, i5, i6, i7⟩ := k_ndInit c1 (by omega) (nI n) b
          rw [hS1] at i2 i3 i4 i5
          have x2 : KX [0] [] 1 g S1 g S2 := ⟨by decide, fun a ha => i4 a (fun e => ha (by rw [z0 a (by omega)]; decide)) (fun e => ha (by rw [z0 a (by omega)]; decide)), fun _ _ => rfl, fun _ _ => rfl, by omega, by omega, by omega, i7⟩
          have fn := b1
          have hfit : gfit .char nm = true := nm_fit b1
          obtain ⟨S3, e3⟩ : ∃ S3, S3 = sup S2 X (cO 1 [vI (nI n), vI (b2i b), vR (some (g.2 2 p)), vI nm, vI 1, vR (some (X + 1)), vI 0, vI 15, vI 0]) := ⟨_, rfl⟩
          obtain ⟨S2a, e2a⟩ : ∃ S2a, S2a = sup S2 X (cO 1 [vI (nI n), vI (b2i b), vR (some (g.2 2 p)), vI 0, vI 1, vR (some (X + 1)), vI 0, vI 15, vI 0]) := ⟨_, rfl⟩
          have p2 : pR S2 (some X) 1 2 (some (g.2 2 p)) = some S2a := by rw [e2a, pR_e i2, if_pos (by simp)]; rfl
          have c2a : S2a.1 X = some (cO 1 [vI (nI n), vI (b2i b), vR (some (g.2 2 p)), vI 0, vI 1, vR (some (X + 1)), vI 0, vI 15, vI 0]) := by rw [e2a]; exact sup_at _ _ _
          have p3 : pI .char S2a (some X) 1 3 nm = some S3 := by
            simp only [pI, hfit, if_true, pF_e c2a]
            rw [if_pos (by simp), e3, e2a, sup_sup]; rfl
          have c3 : S3.1 X = some (cO 1 [vI (nI n), vI (b2i b), vR (some (g.2 2 p)), vI nm, vI 1, vR (some (X + 1)), vI 0, vI 15, vI 0]) := by rw [e3]; exact sup_at _ _ _
          have x3 : KX [0] [] 0 g S2 g S3 := by rw [e3]; exact KX_ch (Ch_sup _) (by decide) (by rw [z0 X (Nat.le_refl _)]; decide)
          have x13 : KX [0] [] 3 g S g S3 := KX_n (KX_tr (KX_tr x1 x2) x3) (by decide)
          have f3 := h2.kx x13
          obtain ⟨S4, a1, a2, a3⟩ := al_add (c := 18) f3.1 (x := some X) (okst_g (grc_o c3) (by decide)) (by simp; omega) (by decide) (by simp; omega)
          have o4 : ∀ a, a ≠ g.2 20 0 → S4.1 a = S3.1 a := a3.1
          have n20 : g.2 20 0 < X := ne h2.2.1 (by decide)
          -- the new owners
          obtain ⟨g4, eg⟩ : ∃ g4, g4 = newO (newO (adN g n X (X + 1)) X 2 n) (X + 1) 3 n := ⟨_, rfl⟩
          have g41 : ∀ a, a < X → g4.1 a = g.1 a := fun a ha => by rw [eg, newO_1, if_neg (by omega), newO_1, if_neg (by omega)]; rfl
          have g42 : g4.2 = (adN g n X (X + 1)).2 := by rw [eg]; rfl
          have x4 : KX [0, 20] [] 18 g S3 g S4 := KX_ch1 a3 h2.2.1
          have x14 : KX [0, 20] [] 21 g S g S4 := KX_n (KX_tr (KX_up x13 (by decide) (by decide) (Nat.le_refl _)) x4) (by decide)
          have S4le : X + 2 ≤ S4.2.1 := by have := x4.le; have := x3.le; omega
          have xo : ∀ {T U : List Nat}, 0 ∈ T → KX T U 0 (adN g n X (X + 1)) S4 g4 S4 := fun {T U} h0 => by
            have q1 : KX T U 0 (adN g n X (X + 1)) S4 (newO (adN g n X (X + 1)) X 2 n) S4 := KX_own (g := adN g n X (X + 1)) (z0 X (Nat.le_refl _)) 2 n h0
            have q2 : KX T U 0 (newO (adN g n X (X + 1)) X 2 n) S4 g4 S4 := by
              rw [eg]
              exact KX_own (by rw [newO_1, if_neg (by omega)]; exact z0 _ (by omega)) 3 n h0
            exact KX_n (KX_tr q1 q2) (Nat.le_refl _)
          have F4 : FR g4 S4 := fun a ha => by
            rw [eg, newO_1, if_neg (by omega), newO_1, if_neg (by omega)]
            exact z0 a (by omega)
          have hX4 : S4.1 X = some (cO 1 [vI (nI n), vI (b2i b), vR (some (g.2 2 p)), vI nm, vI 1, vR (some (X + 1)), vI 0, vI 15, vI 0]) := by rw [o4 _ (by omega)]; exact c3
          have fm : fMd (mkF (zF s) p nm b) = n + 1 := by rw [en]; rfl
          have f4 : RKf g4 (mkF (zF s) p nm b) S4 := by
            have a20 : g4.2 20 0 = g.2 20 0 := by rw [g42, adN_o X (X + 1) (by decide) (by decide)]
            refine ⟨?_, by rw [a20, g41 _ n20]; exact h2.2.1, fun j hj => ?_⟩
            · rw [a20, fm, List.range_succ, List.map_append]
              have e : ((List.range n).map fun k => some (g4.2 2 k)) = (List.range (fMd (zF s))).map fun k => some (g.2 2 k) := by
                rw [← en]
                refine List.map_congr_left fun k hk => ?_
                have := List.mem_range.mp hk
                rw [g42, adN_n X (X + 1) 2 (by omega)]
              rw [e]
              simp only [List.map_cons, List.map_nil]
              rw [g42, adN_2]
              exact a2
            · by_cases ej : j = n
              · subst ej
                rw [g42, adN_2, adN_3]
                refine ⟨?_, ?_, by rw [eg, newO_1, if_neg (by omega), newO_1, if_pos rfl], by rw [eg, newO_1, if_pos rfl]⟩
                · rw [hX4]
                  simp only [ndC, g42, fFo_mkF, fPa_mkF, fNm_mkF, fEd_mkF, fLk_mkF, fPp_mkF, fGo_mkF, ← en, fu_s, adN_3, Option.map_some]
                  rw [adN_n X (X + 1) 2 (show p ≠ j by omega)]
                  rfl
                · rw [fMk_mkF, ← en, fu_s]
                  refine i3.fr ?_
                  rw [o4 _ (by omega), e3, sup_ne _ _ (by omega)]
              · have hj2 : j < fMd (zF s) := by omega
                obtain ⟨j1, j2, j3, j4⟩ := f3.2.2 j hj2
                have l1 := ne j3 (by decide)
                have l2 := ne j4 (by decide)
                rw [g42, adN_n X (X + 1) 2 ej, adN_n X (X + 1) 3 ej]
                refine ⟨?_, ?_, by rw [g41 _ l1]; exact j3, by rw [g41 _ l2]; exact j4⟩
                · rw [o4 _ (fun e => by rw [e, h2.2.1] at j3; cases j3), j1]
                  simp only [ndC, g42, fFo_mkF, fPa_mkF, fNm_mkF, fEd_mkF, fLk_mkF, fPp_mkF, fGo_mkF, ← en, fu_n _ _ ej, adN_n X (X + 1) 3 ej]
                  have : (fPa (zF s) j).map (g.2 2) = (fPa (zF s) j).map ((adN g n X (X + 1)).2 2) := by
                    cases hq : fPa (zF s) j with
                    | none => rfl
                    | some q =>
                      have := ((A j hj2).2 q hq).1
                      simp only [Option.map_some]
                      rw [adN_n X (X + 1) 2 (by omega)]
                  rw [this]
                · rw [fMk_mkF, ← en, fu_n _ _ ej, bxr_c a3.2.2.2.2]
                  exact j2.fr (o4 _ (fun e => by rw [e, h2.2.1] at j4; cases j4))
          have en2 := en
          have r4 : RKr g4 (zR s) S4 := by
            have := (h3.kx x14).adn hT X (X + 1)
            rw [← en] at this
            exact this.kx (xo (T := [0]) (U := []) (by decide))
          have e4 : RKe g4 (zE s) (sgO (zS s)) S4 := by
            have := (h4.kx x14).adn hE X (X + 1)
            rw [← en] at this
            exact this.kx (xo (T := [0]) (U := []) (by decide))
          have a4 : RKa g4 (zA s) S4 := by
            have := (h5.kx x14).adn hB X (X + 1)
            rw [← en] at this
            exact this.kx (xo (T := [0]) (U := []) (by decide))
          have s4 : RKs g4 (zS s) S4 := ((h6'.kx x14).adn X (X + 1)).kx (xo (T := [0]) (U := []) (by decide))
          have w4 : RKw g4 (zW s) S4 := ((h7.kx x14).adn X (X + 1)).kx (xo (T := [0]) (U := []) (by decide))
          have n4 : RKn g4 (zN s) S4 := ((h1.kx x14).adn X (X + 1)).kx (xo (T := [0]) (U := []) (by decide))
          have k4 : RKc g4 S4 := by
            have k4a : RKc g S4 := h8.kx x14 (FR_sm hF x14.le)
            have : RKc (adN g n X (X + 1)) S4 := k4a
            exact this.kx (xo (T := [0]) (U := []) (by decide)) F4
          obtain ⟨S5, b51, b52⟩ := k_above (k := n) n4 f4 r4 k4 A' hT'.toS (by omega)
          have r5 := r4.kx b52
          obtain ⟨S6, g6, t1, t2, t3, t4, t5⟩ := k_tell r5 (FR_sm k4.2.2.2 b52.le) hT' hN' (o := abv (mkF (zF s) p nm b) (zR s) n) (fun a ha => abv_in ha) 0 n
          have a10 : g4.2 1 0 = g.2 1 0 := by rw [g42, adN_o X (X + 1) (by decide) (by decide)]
          have a2n : g4.2 2 n = X := by rw [g42, adN_2]
          have x16 : KX TT UU 30 g S g6 S6 := by
            have q1 : KX TT UU 0 g S4 (adN g n X (X + 1)) S4 := ⟨by decide, fun _ _ => rfl, fun _ _ => rfl, fun t ht => adN_o X (X + 1) (fun e => ht (by rw [e]; decide)) (fun e => ht (by rw [e]; decide)), Nat.le_refl _, Nat.le_refl _, Nat.le_refl _, rfl⟩
            have q2 : KX TT UU 0 (adN g n X (X + 1)) S4 g4 S4 := xo (by decide)
            exact KX_n (KX_tr (KX_tr (KX_tr (KX_all x14 (Nat.le_refl _)) (KX_tr q1 q2)) (KX_all b52 (Nat.le_refl _))) (KX_all t2 (Nat.le_refl _))) (by decide)
          have z5 : KX [0, 4, 5] [] 3 g4 S4 g6 S6 := KX_n (KX_tr (KX_up b52 (by decide) (by decide) (Nat.le_refl _)) t2) (by decide)
          have R6 : RK g6 (wR (wF s (mkF (zF s) p nm b)) (telS (zR s) (abv (mkF (zF s) p nm b) (zR s) n) 0 n)) S6 := ⟨n4.kx z5, f4.kx z5, t5, e4.kx z5, a4.kx z5, s4.kx z5, w4.kx z5, k4.kx z5 t4⟩
          have g60 : gI S6 (some X) 1 0 = some (nI n) := by
            have := nd_0 R6.2.1 (k := n) (by show n < fMd (mkF (zF s) p nm b); omega)
            rw [t3, a2n] at this
            exact this
          rw [a10, a2n] at b51 t1
          have n5 := n4.kx b52
          have nn3 := h1.kx x13
          have nn4 := h1.kx x14
          have cl4 := n4.cl
          have cl5 := n5.cl
          rw [a10] at cl4 cl5
          have t1' : n_X1_tell S5 (some (g.2 1 0)) ((abv (mkF (zF s) p nm b) (zR s) n).map (g4.2 4)) (some (S5.2.2.2 1)) (some X) = some ((), S6) := t1
          simp only [n_X1_make_b44, k_poss1, tbn_s, nwB_e, ← eX, ← e1, kn_0 (h1.kx x1), ob_s, (h2.kx x1).1.cl, gd_t, ndl_size (h2.kx x1), bn_s, Option.isSome_some, ← en, i1, p2, p3, kn_0 nn3, f3.1.cl, a1, cl4, b51, cl5, t1', g60, rt_i]
          exact KO_s x16 R6
    · simp only [b1, b2i_f, k_check0, tbn_x, if_true]
      exact KO_x (j := 1) rfl hh 0 (by decide) (by decide)
end
