/-! the keeper's work: a look, whole -/
/-- the rest of a look -/
def lkR (S7 : St) (x0 x1 y0 : Option Nat) : Option (Unit × St) :=
  (gI S7 x1 1 1).bind fun v8 =>
  if v8 = 0 then
    (gI S7 y0 5 3).bind fun v9 =>
    (gI S7 x1 1 4).bind fun v10 =>
    if v9 = v10 then
      n_X1_look_b122 S7 x0 x1
    else
      (gI S7 x1 1 4).bind fun v11 =>
      (pI .int S7 y0 5 3 v11).bind fun S12 =>
      nwB S12 (cO 6 [vR none, vI 0, vI 0, vR none, vI 0]) 5 fun q13 S14 =>
      (gR S14 x1 1 5).bind fun v15 =>
      (gI S14 x0 0 10).bind fun v16 =>
      (gI S14 x0 0 11).bind fun v17 =>
      gd (q13).isSome <|
      bn (n_X8_init S14 q13 v15 v16 v17) fun _ S18 =>
      (gR S18 q13 6 3).bind fun v20 =>
      (pR S18 y0 5 4 v20).bind fun S21 =>
      (gR S21 x0 0 5).bind fun v22 =>
      (gI S21 x1 1 0).bind fun v23 =>
      gd (grc S21 v22 10) <|
      bn (h_J5_set S21 v22 v23) fun _ S24 =>
      n_X1_look_b122 S24 x0 x1
  else
    n_X1_look_b122 S7 x0 x1
/-- what it comes to, for an entry in place -/
def lkS (s : Sg) (n : Nat) (e : EnV) : Sg :=
  if fFo (zF s) n = true then wA s (lokA (zF s) n (zA s) (fMd (zF s)))
  else if e.2.2.1 = fEd (zF s) n then s
  else wW (wE s (fu (zE s) n (some (e.1, e.2.1, fEd (zF s) n, takW (zN s) (fMk (zF s) n))))) (zW s ||| bbit (nI n))
section
variable {S S' S1 : St} {g g' : GA} {T U : List Nat} {n m a b c x y t i j d : Nat} {f f' : Fl} {rs : List RtV} {en : En} {o : Nat → Option Nat} {ac : List AcV} {sg : List SgV} {w : Int64} {nm : Nm} {s : Sg} {rk : Nat → Nat} {k p : Nat} {e : EnV} {E A L : Nat} {dl most : Int32} {ms W : List Int32}
theorem k_put {hh : Nat → TV} {ed : Int32} {u lw so : Option Nat} {v : Int32} (hn : RKn g nm S) (hf : RKf g f S) (hA : S.1 (g.2 22 0) = some (cA 5 60 hh)) (hE : S.1 E = some (cO 5 [vR (some (g.2 2 n)), vR u, vI v, vI ed, vR lw, vR so])) (ne : E ≠ g.2 22 0) (n1 : g.2 2 n ≠ E) (n2 : g.2 2 n ≠ g.2 22 0) (n3 : g.2 1 0 ≠ E) (hk : n < fMd f) (h6 : fMd f ≤ 60) (hp : fPa f n = some p) (hg : gfit .char (fNm f n) = true) : ∃ S7, n_X1_look_b32 S (some (g.2 1 0)) (some (g.2 2 n)) (some E) = lkR S7 (some (g.2 1 0)) (some (g.2 2 n)) (some E) ∧ S7.1 (g.2 22 0) = some (cA 5 60 (updT hh n (vR (some E)))) ∧ S7.1 E = some (cO 5 [vR (some (g.2 2 n)), vR (some (g.2 2 p)), vI (fNm f n), vI ed, vR lw, vR so]) ∧ (∀ a, a ≠ E → a ≠ g.2 22 0 → S7.1 a = S.1 a) ∧ S7.2 = S.2 := by
  have hnd := (hf.2.2 n hk).1
  obtain ⟨S3, e3⟩ : ∃ S3, S3 = sup S (g.2 22 0) (cA 5 60 (updT hh n (vR (some E)))) := ⟨_, rfl⟩
  have ok : okst S 5 (some E) = true := by simp only [okst, hE]; rfl
  have p3 : sR S (some (g.2 22 0)) 5 (nI n) (some E) = some S3 := by rw [e3]; exact sR_e ok hA (by omega) (by decide)
  have c3 : S3.1 E = some (cO 5 [vR (some (g.2 2 n)), vR u, vI v, vI ed, vR lw, vR so]) := by rw [e3, sup_ne _ _ ne]; exact hE
  have d3 : S3.1 (g.2 2 n) = some (ndC g f n) := by rw [e3, sup_ne _ _ n2]; exact hnd
  obtain ⟨S5, e5⟩ : ∃ S5, S5 = sup S3 E (cO 5 [vR (some (g.2 2 n)), vR (some (g.2 2 p)), vI v, vI ed, vR lw, vR so]) := ⟨_, rfl⟩
  have p5 : pR S3 (some E) 5 1 (some (g.2 2 p)) = some S5 := by rw [e5, pR_e c3, if_pos (by simp)]; rfl
  have c5 : S5.1 E = some (cO 5 [vR (some (g.2 2 n)), vR (some (g.2 2 p)), vI v, vI ed, vR lw, vR so]) := by rw [e5]; exact sup_at _ _ _
  have d5 : S5.1 (g.2 2 n) = some (ndC g f n) := by rw [e5, sup_ne _ _ n1]; exact d3
  obtain ⟨S7, e7⟩ : ∃ S7, S7 = sup S5 E (cO 5 [vR (some (g.2 2 n)), vR (some (g.2 2 p)), vI (fNm f n), vI ed, vR lw, vR so]) := ⟨_, rfl⟩
  have p7 : pI .char S5 (some E) 5 2 (fNm f n) = some S7 := by
    simp only [pI, hg, if_true, pF_e c5]
    rw [e7, if_pos (by simp)]; rfl
  refine ⟨S7, ?_, ?_, by rw [e7]; exact sup_at _ _ _, fun a h1 h2 => by rw [e7, sup_ne _ _ h1, e5, sup_ne _ _ h1, e3, sup_ne _ _ h2], by rw [e7, e5, e3]; rfl⟩
  · have r2 : gR S3 (some (g.2 2 n)) 1 2 = some (some (g.2 2 p)) := by rw [gR_e d3]; simp [ndC, asR, hp]
    have r3 : gI S5 (some (g.2 2 n)) 1 3 = some (fNm f n) := by rw [gI_e d5]; rfl
    simp only [n_X1_look_b32, kn_2 hn, nd_0 hf hk, ob_s, p3, r2, p5, r3, p7]
    rfl
  · rw [e7, sup_ne _ _ (Ne.symm ne), e5, sup_ne _ _ (Ne.symm ne), e3]; exact sup_at _ _ _
theorem k_lkR (h : RK g s S) (A : AC (zF s) rk) (hB : AB (zF s) (zA s)) (hF : FS (zF s)) (h6 : fMd (zF s) ≤ 60) (hsm : ∀ m ∈ fMk (zF s) n, Sm m) (h40 : N40 g) (hk : n < fMd (zF s)) (he : zE s n = some e) (hed : e.2.2.1 < 2 ^ 31) : ∃ S' g', lkR S (some (g.2 1 0)) (some (g.2 2 n)) (some (g.2 9 n)) = some ((), S') ∧ KX [0, 9, 11, 23, 25] [10, 11] (if fFo (zF s) n = true then fMd (zF s) + 2 * ((zA (lkS s n e)).length - (zA s).length) else if e.2.2.1 = fEd (zF s) n then 0 else 2 + 12 * (fMk (zF s) n).length) g S g' S' ∧ RK g' (lkS s n e) S' := by
  have H := h
  obtain ⟨h1, h2, h3, h4, h5, h6', h7, h8⟩ := h
  have hE := (h4.2.2 n e he).1
  have o9 := (h4.2.2 n e he).2.2.1
  have o10 := (h4.2.2 n e he).2.2.2
  have e3 := en_3 h4 he
  simp only [lkR, nd_1 h2 hk, ob_s, b2i_0]
  rcases Bool.eq_false_or_eq_true (fFo (zF s) n) with b | b
  · rw [if_neg (by rw [b]; decide), if_pos b]
    have el : lkS s n e = wA s (lokA (zF s) n (zA s) (fMd (zF s))) := by unfold lkS; rw [if_pos b]
    obtain ⟨S', g', k1, k2, k3, k4⟩ := k_kids h1 h2 A h5 h8.2.2.2 hB h6 hk b
    rw [el]
    exact ⟨S', g', k1, KX_up k2 (by decide) (by decide) (Nat.le_refl _), h1.kx k2, h2.kx k2, h3.kx k2, h4.kx k2, k3, h6'.kx k2, h7.kx k2, h8.kx k2 k4⟩
  · rw [if_pos b, if_neg (by rw [b]; decide)]
    have hFn := hF n hk
    simp only [e3, nd_4 h2 hk, ob_s, nI_eqE (show e.2.2.1 < 2 ^ 31 from hed) (show fEd (zF s) n < 2 ^ 31 by omega)]
    by_cases ee : e.2.2.1 = fEd (zF s) n
    · have el : lkS s n e = s := by unfold lkS; rw [if_neg (by rw [b]; decide), if_pos ee]
      rw [if_pos ee, if_pos ee, el]
      exact ⟨S, g, k_kids0 h1 h2 hk b, KX_rf (by decide), H⟩
    · rw [if_neg ee, if_neg ee]
      obtain ⟨Ed, eEd'⟩ : ∃ Ed, Ed = g.2 9 n := ⟨_, rfl⟩
      rw [← eEd'] at hE o9 ⊢
      obtain ⟨S12, e12⟩ : ∃ S12, S12 = sup S Ed (cO 5 [vR (some (g.2 2 n)), vR (some (g.2 2 e.1)), vI e.2.1, vI (nI (fEd (zF s) n)), vR (some (g.2 10 n)), vR ((sgO (zS s) n).map (g.2 12))]) := ⟨_, rfl⟩
      have c12 : S12.1 Ed = some (cO 5 [vR (some (g.2 2 n)), vR (some (g.2 2 e.1)), vI e.2.1, vI (nI (fEd (zF s) n)), vR (some (g.2 10 n)), vR ((sgO (zS s) n).map (g.2 12))]) := by rw [e12]; exact sup_at _ _ _
      have p12 : pI .int S (some Ed) 5 3 (nI (fEd (zF s) n)) = some S12 := by
        rw [e12, pI_e (show S.1 Ed = some (cO 5 [vR (some (g.2 2 n)), vR (some (g.2 2 e.1)), vI e.2.1, vI (nI e.2.2.1), vR (some (g.2 10 n)), vR ((sgO (zS s) n).map (g.2 12))]) from hE), if_pos (by simp)]; rfl
      have x12 : KX [0, 9, 25] [10] 0 g S g S12 := by rw [e12]; exact KX_ch1 (Ch_sup _) o9
      have F12 : FR g S12 := FR_sm h8.2.2.2 x12.le
      obtain ⟨Q, eQ⟩ : ∃ Q, Q = S12.2.1 := ⟨_, rfl⟩
      have hQ0 : (g.1 Q).1 = 0 := F12 Q (by omega)
      obtain ⟨S14, e14⟩ : ∃ S14, S14 = spu S12 (cO 6 [vR none, vI 0, vI 0, vR none, vI 0]) 5 := ⟨_, rfl⟩
      have c14 : Ch Q 1 S12 S14 := by rw [e14, eQ]; exact Ch_spu _ (by omega) (Nat.le_refl _)
      have y14 : KX [0] [] 1 g S12 g S14 := KX_ch c14 (by decide) (by rw [hQ0]; decide)
      have x14 : KX [0, 9, 25] [10] 1 g S g S14 := KX_n (KX_tr x12 (KX_up y14 (by decide) (by decide) (Nat.le_refl _))) (by omega)
      have F14 : FR g S14 := FR_sm F12 y14.le
      have hQ14 : S14.1 Q = some (cO 6 [vR none, vI 0, vI 0, vR none, vI 0]) := by rw [e14, eQ]; exact spu_at _ _ _
      have hlt14 : Q < S14.2.1 := by rw [e14, eQ]; exact Nat.lt_succ_self _
      have n14 := h1.kx x14
      have f14 := h2.kx x14
      have hc14 : RKc g S14 := h8.kx x14 F14
      obtain ⟨S18, g18, L, r1, r2, r3, r4, r5, r6, r7, r8, r9⟩ := k_take8 hc14 hQ14 hQ0 hlt14 (f14.2.2 n hk).2.1 (by rw [(f14.2.2 n hk).2.2.2]) hsm hFn.2 h40 (zN s).2.2.2.2.1 (zN s).2.2.2.2.2
      obtain ⟨W, eW⟩ : ∃ W, W = tkW (zN s).2.2.2.2.1 (zN s).2.2.2.2.2 (fMk (zF s) n) 0 0 := ⟨_, rfl⟩
      rw [← eW] at r2 r7
      have hWl : W.length ≤ (fMk (zF s) n).length := by rw [eW]; exact tkW_len _ _ _
      have o9' : g18.1 Ed = (9, n) := r2.ow1 o9 (by decide)
      have x18 : KX [0, 9, 25] [10] (2 + 12 * W.length) g S g18 S18 := KX_n (KX_tr x14 (KX_up r2 (by decide) (by decide) (Nat.le_refl _))) (by omega)
      have nEQ : Ed ≠ Q := fun z => by
        rw [z] at o9; rw [o9] at hQ0; cases hQ0
      have c18 : S18.1 Ed = some (cO 5 [vR (some (g.2 2 n)), vR (some (g.2 2 e.1)), vI e.2.1, vI (nI (fEd (zF s) n)), vR (some (g.2 10 n)), vR ((sgO (zS s) n).map (g.2 12))]) := by
        rw [r2.at1 o9 (by decide), c14.1 _ nEQ]; exact c12
      have nEL : Ed ≠ L := fun z => by rw [z] at o9'; rw [o9'] at r8; cases r8
      obtain ⟨S21, e21⟩ : ∃ S21, S21 = sup S18 Ed (cO 5 [vR (some (g.2 2 n)), vR (some (g.2 2 e.1)), vI e.2.1, vI (nI (fEd (zF s) n)), vR (some L), vR ((sgO (zS s) n).map (g.2 12))]) := ⟨_, rfl⟩
      have p21 : pR S18 (some Ed) 5 4 (some L) = some S21 := by rw [e21, pR_e c18, if_pos (by simp)]; rfl
      have x21 : KX [0, 9, 25] [10] 0 g18 S18 g18 S21 := by rw [e21]; exact KX_ch1 (Ch_sup _) o9'
      have w0 := h7.2
      have w1 : g18.1 (g.2 25 0) = (25, 0) := by exact r2.ow1 w0 (by decide)
      have nE25 : g.2 25 0 ≠ Ed := fun z => by rw [z, o9] at w0; cases w0
      have nQ25 : g.2 25 0 ≠ Q := fun z => by
        rw [z] at w0; rw [w0] at hQ0; cases hQ0
      have nL25 : L ≠ g.2 25 0 := fun z => by rw [z, w1] at r8; cases r8
      have cw : S21.1 (g.2 25 0) = some (cBS (zW s)) := by
        rw [e21, sup_ne _ _ nE25, r2.at1 w0 (by decide), c14.1 _ nQ25, e12, sup_ne _ _ nE25]; exact h7.1
      obtain ⟨S24, e24⟩ : ∃ S24, S24 = sup S21 (g.2 25 0) (cBS (zW s ||| bbit (nI n))) := ⟨_, rfl⟩
      have p24 : h_J5_set S21 (some (g.2 25 0)) (nI n) = some ((), S24) := by rw [e24]; exact bs_set cw (by omega)
      have x24 : KX [0, 9, 25] [10] 0 g18 S21 g18 S24 := by rw [e24]; exact KX_ch1 (Ch_sup _) w1
      have y24 : KX [0, 9, 25] [10] (2 + 12 * W.length) g S g18 S24 := KX_n (KX_tr (KX_tr x18 x21) x24) (by omega)
      obtain ⟨g', eg⟩ : ∃ g', g' = newO (adS g18 10 n L) L 10 n := ⟨_, rfl⟩
      have z24 : KX [0, 9, 25] [10] (2 + 12 * W.length) g S g' S24 := by
        rw [eg]
        exact KX_n (KX_tr (KX_tr y24 (KX_adS (by decide) (by decide) n L)) (KX_own (g := adS g18 10 n L) r8 10 n (by decide))) (by omega)
      have F' : FR g' S24 := by
        rw [eg]
        exact FR_own (g := adS g18 10 n L) (FR_sm r5 (Nat.le_trans x21.le x24.le)) (Nat.lt_of_lt_of_le r9 (Nat.le_trans x21.le x24.le)) _ _
      have g2 : ∀ t, t ≠ 10 → g'.2 t = g.2 t := fun t ht => by rw [eg, newO_2, adS_o L ht, r3]
      have g210 : g'.2 10 n = L := by rw [eg, newO_2, adS_s]
      have g2n : ∀ j, j ≠ n → g'.2 10 j = g.2 10 j := fun j hj => by rw [eg, newO_2, adS_n 10 L hj, r3]
      have oA : ∀ a, (g.1 a).1 ≠ 0 → a ≠ Ed → a ≠ g.2 25 0 → S24.1 a = S.1 a := fun a h0 ha hb => by
        have : a ≠ Q := fun z => h0 (by rw [z]; exact hQ0)
        rw [e24, sup_ne _ _ hb, e21, sup_ne _ _ ha, r2.at (by simpa using h0), c14.1 a this, e12, sup_ne _ _ ha]
      have n24 := h1.kx z24
      have f24 := h2.kx z24
      have kk := k_kids0 n24 f24 hk b
      rw [g2 1 (by decide), g2 2 (by decide)] at kk
      have hlen : lkS s n e = wW (wE s (fu (zE s) n (some (e.1, e.2.1, fEd (zF s) n, W)))) (zW s ||| bbit (nI n)) := by
        unfold lkS
        rw [if_neg (by rw [b]; decide), if_neg ee, eW]
        rfl
      have bx : bxr S24 = bxr S := bxr_c z24.cs
      rw [hlen]
      refine ⟨S24, g', ?_, KX_n (KX_up z24 (by decide) (by decide) (Nat.le_refl _)) (by omega), n24, f24, h3.kx z24, ?_, h5.kx z24, h6'.kx z24, ?_, h8.kx z24 F'⟩
      · have kn5 : gR S21 (some (g.2 1 0)) 0 5 = some (some (g.2 25 0)) := by
          have q := kn_5 (h1.kx (KX_tr x18 x21))
          rw [r3] at q; exact q
        have nd0 : gI S21 (some (g.2 2 n)) 1 0 = some (nI n) := by
          have q := nd_0 (h2.kx (KX_tr x18 x21)) hk
          rw [r3] at q; exact q
        simp only [p12, nwB_e, ← eQ, ← e14, nd_5 f14 hk, kn_10 n14, kn_11 n14, ob_s, Option.isSome_some, gd_t, r1, bn_s, r6, p21, kn5, nd0, isBS_cl cw, p24, kk]
      · obtain ⟨⟨hh, q1, q2⟩, q3, q4⟩ := h4
        have n22 : g.2 22 0 ≠ Ed := fun z => by rw [z, o9] at q3; cases q3
        have n225 : g.2 22 0 ≠ g.2 25 0 := fun z => by rw [z, w0] at q3; cases q3
        refine ⟨⟨hh, ?_, fun j hj => ?_⟩, ?_, fun j ej hej => ?_⟩
        · rw [g2 22 (by decide), oA _ (by rw [q3]; decide) n22 n225]; exact q1
        · rw [g2 9 (by decide)]
          show hh j = vR (if (fu (zE s) n (some (e.1, e.2.1, fEd (zF s) n, W)) j).isSome then some (g.2 9 j) else none)
          by_cases ejn : j = n
          · subst ejn; rw [fu_s, q2 _ hj, he]; rfl
          · rw [fu_n _ _ ejn]; exact q2 j hj
        · rw [g2 22 (by decide)]; exact z24.ow1 q3 (by decide)
        · have hej : fu (zE s) n (some (e.1, e.2.1, fEd (zF s) n, W)) j = some ej := hej
          by_cases ejn : j = n
          · subst ejn
            rw [fu_s] at hej
            cases hej
            refine ⟨?_, ?_, ?_, ?_⟩
            · rw [g2 9 (by decide), ← eEd', e24, sup_ne _ _ (Ne.symm nE25), e21, sup_at]
              simp only [enC, g210, g2 2 (by decide), g2 12 (by decide)]
            · rw [g210]
              have : bxr S18 = bxr S24 := by rw [e24, e21]; rfl
              rw [← this]
              exact r7.fr (by rw [e24, sup_ne _ _ nL25, e21, sup_ne _ _ (Ne.symm nEL)])
            · rw [g2 9 (by decide), ← eEd']; exact z24.own1 o9 (by decide)
            · rw [g210, eg, newO_1, if_pos rfl]
          · rw [fu_n _ _ ejn] at hej
            obtain ⟨v1, v2, v3, v4⟩ := q4 j ej hej
            have nj : g.2 9 j ≠ Ed := fun z => by rw [z, o9] at v3; exact ejn (congrArg (·.2) v3).symm
            have nj25 : g.2 9 j ≠ g.2 25 0 := fun z => by rw [z, w0] at v3; cases v3
            have nl : g.2 10 j ≠ Ed := fun z => by rw [z, o9] at v4; cases v4
            have nl25 : g.2 10 j ≠ g.2 25 0 := fun z => by rw [z, w0] at v4; cases v4
            refine ⟨?_, ?_, ?_, ?_⟩
            · rw [g2 9 (by decide), oA _ (by rw [v3]; exact Nat.succ_ne_zero _) nj nj25, v1]
              simp only [enC, g2 2 (by decide), g2 12 (by decide), g2n j ejn]
            · rw [g2n j ejn, bx]; exact v2.fr (oA _ (by rw [v4]; exact Nat.succ_ne_zero _) nl nl25)
            · rw [g2 9 (by decide)]; exact z24.own1 v3 (by decide)
            · rw [g2n j ejn]; exact z24.ow1 v4 (by decide)
      · refine ⟨?_, ?_⟩
        · rw [g2 25 (by decide), e24]; exact sup_at _ _ _
        · rw [g2 25 (by decide)]; exact z24.own1 w0 (by decide)
end
