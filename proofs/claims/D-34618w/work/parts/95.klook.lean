/-! the keeper's work: a look; words taken, children -/
section
variable {S S' S1 : St} {g g' : GA} {T U : List Nat} {n m a b c x y t i j d : Nat} {f f' : Fl} {rs : List RtV} {en : En} {o : Nat → Option Nat} {ac : List AcV} {sg : List SgV} {w : Int64} {nm : Nm} {s : Sg} {rk : Nat → Nat} {k p : Nat} {e : EnV} {Q A L : Nat} {dl most : Int32} {ms W : List Int32}
theorem k_take8 (hc : RKc g S) (hQ : S.1 Q = some (cO 6 [vR none, vI 0, vI 0, vR none, vI 0])) (hQ0 : (g.1 Q).1 = 0) (hQl : Q < S.2.1) (hA : isAL S A (ms.map (bxr S))) (o3 : (g.1 A).1 = 3) (hsm : ∀ m ∈ ms, Sm m) (hl : ms.length ≤ 20) (h40 : N40 g) (dl most : Int32) : ∃ S' g' L, n_X8_init S (some Q) (some A) dl most = some ((), S') ∧ KX [0] [] (1 + 12 * (tkW dl most ms 0 0).length) g S g' S' ∧ g'.2 = g.2 ∧ N40 g' ∧ FR g' S' ∧ gR S' (some Q) 6 3 = some (some L) ∧ isAL S' L ((tkW dl most ms 0 0).map (bxr S')) ∧ (g'.1 L).1 = 0 ∧ L < S'.2.1 := by
  have hF := hc.2.2.2
  obtain ⟨L, eL⟩ : ∃ L, L = S.2.1 := ⟨_, rfl⟩
  have hL0 : (g.1 L).1 = 0 := hF L (by omega)
  have nQL : Q ≠ L := by omega
  have nAQ : A ≠ Q := fun e => by rw [e, hQ0] at o3; cases o3
  have nAL : A ≠ L := fun e => by rw [e, hL0] at o3; cases o3
  obtain ⟨S2, a1, a2, a3, a4⟩ := al_init0 (S := spu S (cO 8 [vI 0, vR none, vI 0]) 3) (a := L) (by rw [eL]; exact spu_at _ _ _) rfl
  have c2 : Ch L 1 S S2 := by rw [eL] at a4 ⊢; exact Ch_n (Ch_tr (Ch_spu _ (c := 1) (by omega) (by omega)) a4) (by omega)
  have q2 : S2.1 Q = some (cO 6 [vR none, vI 0, vI 0, vR none, vI 0]) := by rw [c2.1 _ nQL]; exact hQ
  have lt2 : L < S2.2.1 := Nat.lt_of_lt_of_le (by rw [eL]; exact Nat.lt_succ_self _) a4.2.1
  obtain ⟨T1, e1⟩ : ∃ T1, T1 = sup S2 Q (cO 6 [vR none, vI 0, vI 0, vR (some L), vI 0]) := ⟨_, rfl⟩
  have t1 : T1.1 Q = some (cO 6 [vR none, vI 0, vI 0, vR (some L), vI 0]) := by rw [e1]; exact sup_at _ _ _
  have p1 : pR S2 (some Q) 6 3 (some L) = some T1 := by rw [e1, pR_e q2, if_pos (by simp)]; rfl
  obtain ⟨T2, e2⟩ : ∃ T2, T2 = sup T1 Q (cO 6 [vR (some A), vI 0, vI 0, vR (some L), vI 0]) := ⟨_, rfl⟩
  have t2 : T2.1 Q = some (cO 6 [vR (some A), vI 0, vI 0, vR (some L), vI 0]) := by rw [e2]; exact sup_at _ _ _
  have p2 : pR T1 (some Q) 6 0 (some A) = some T2 := by rw [e2, pR_e t1, if_pos (by simp)]; rfl
  obtain ⟨T3, e3⟩ : ∃ T3, T3 = sup T2 Q (cO 6 [vR (some A), vI dl, vI 0, vR (some L), vI 0]) := ⟨_, rfl⟩
  have t3 : T3.1 Q = some (cO 6 [vR (some A), vI dl, vI 0, vR (some L), vI 0]) := by rw [e3]; exact sup_at _ _ _
  have p3 : pI .int T2 (some Q) 6 1 dl = some T3 := by rw [e3, pI_e t2, if_pos (by simp)]; rfl
  obtain ⟨T4, e4⟩ : ∃ T4, T4 = sup T3 Q (cO 6 [vR (some A), vI dl, vI most, vR (some L), vI 0]) := ⟨_, rfl⟩
  have t4 : T4.1 Q = some (cO 6 [vR (some A), vI dl, vI most, vR (some L), vI 0]) := by rw [e4]; exact sup_at _ _ _
  have p4 : pI .int T3 (some Q) 6 2 most = some T4 := by rw [e4, pI_e t3, if_pos (by simp)]; rfl
  have c4 : Ch Q 0 S2 T4 := by
    have z1 : Ch Q 0 S2 T1 := by rw [e1]; exact Ch_sup _
    have z2 : Ch Q 0 T1 T2 := by rw [e2]; exact Ch_sup _
    have z3 : Ch Q 0 T2 T3 := by rw [e3]; exact Ch_sup _
    have z4 : Ch Q 0 T3 T4 := by rw [e4]; exact Ch_sup _
    exact Ch_n (Ch_tr (Ch_tr (Ch_tr z1 z2) z3) z4) (by omega)
  obtain ⟨g1, eg⟩ : ∃ g1, g1 = newO (newO g Q 40 0) L 40 1 := ⟨_, rfl⟩
  have g1L : g1.1 L = (40, 1) := by rw [eg]; exact if_pos rfl
  have g1Q : g1.1 Q = (40, 0) := by rw [eg, newO_1, if_neg nQL]; exact if_pos rfl
  have g12 : g1.2 = g.2 := by rw [eg]; rfl
  have x4 : KX [40, 0] [] 1 g S g1 T4 := by
    have y1 : KX [40, 0] [] 1 g S g S2 := KX_ch c2 (by decide) (by rw [hL0]; decide)
    have y2 : KX [40, 0] [] 0 g S2 g T4 := KX_ch c4 (by decide) (by rw [hQ0]; decide)
    have y3 : KX [40, 0] [] 0 g T4 (newO g Q 40 0) T4 := KX_own hQ0 40 0 (by decide)
    have y4 : KX [40, 0] [] 0 (newO g Q 40 0) T4 g1 T4 := by
      rw [eg]; exact KX_own (by rw [newO_1, if_neg (Ne.symm nQL)]; exact hL0) 40 1 (by decide)
    exact KX_n (KX_tr (KX_tr (KX_tr y1 y2) y3) y4) (by omega)
  have lt4 : L < T4.2.1 := Nat.lt_of_lt_of_le lt2 c4.2.1
  have F4 : FR g1 T4 := by
    rw [eg]
    exact FR_own (FR_own (FR_sm hF x4.le) (by omega) _ _) lt4 _ _
  have hc4 : RKc g1 T4 := hc.kx x4 F4
  have bx4 : bxr T4 = bxr S := bxr_c x4.cs
  have TK : TKs g1 T4 Q A L dl most ms [] 0 := by
    refine ⟨by rw [t4, nI_0], ?_, ?_, ?_, hc4, Nat.le_refl _, g1Q, g1L, ?_⟩
    · rw [bx4]; exact hA.fr (by rw [c4.1 _ nAQ, c2.1 _ nAL])
    · exact a2.fr (c4.1 _ (Ne.symm nQL))
    · rw [alK_fr (c4.1 _ (Ne.symm nQL)), a3]; exact Nat.zero_le _
    · rw [eg, newO_1, if_neg nAL, newO_1, if_neg nAQ]; exact o3
  have hk0 : alK T4 L = 0 := by rw [alK_fr (c4.1 _ (Ne.symm nQL)), a3]
  obtain ⟨b, S5, j', W', r1, r2, r3, r4, r5, r6, r7, r8⟩ := k_take_b0 hsm hl ms.length 24 FU 0 0 [] T4 (by omega) (by omega) (by simp only [FU]; omega) (by omega) TK
  have hW : W' = tkW dl most ms 0 0 := by
    cases b with
    | true => simpa using r7 rfl
    | false =>
      obtain ⟨h1, h2⟩ := r8 rfl
      have hj : j' = ms.length := by omega
      rw [hj, List.drop_eq_nil_of_le (Nat.le_refl _)] at h2
      simpa [tkW] using h2.symm
  rw [hW] at r4
  obtain ⟨u1, u2, u3, u4, u5, u6, u7, u8, u9⟩ := r4
  have xx : KX [40, 0] [] (1 + 12 * (tkW dl most ms 0 0).length) g S g1 S5 := KX_n (KX_tr x4 (KX_up r2 (by decide) (by decide) (Nat.le_refl _))) (by omega)
  have e25 : n_X8_take 25 T4 (some Q) 0 = some (b2i b, S5) := by
    rw [show (25 : Nat) = 24 + 1 from rfl, n_X8_take, n_X8_take_b0m, ← nI_0]
    exact r1
  have clQ : grc T4 (some Q) 6 = true := grc_o t4
  refine ⟨S5, un40 g1, L, ?_, KX_un h40 (KX_r40 h40 xx), g12, un_N g1, fun b hb => un_k (u5.2.2.2 b hb), by rw [gR_e u1]; rfl, u3, ?_, Nat.lt_of_lt_of_le lt4 r2.le⟩
  · simp only [n_X8_init, Option.isSome_some, gd_t, nwB_e, ← eL, a1, bn_s, p1, p2, p3, p4, ob_s, clQ, e25]
  · show (if (g1.1 L).1 = 40 then ((0, 0) : Nat × Nat) else g1.1 L).1 = 0
    rw [g1L]; rfl
theorem lokA_ge (f : Fl) (n : Nat) (ac : List AcV) : ∀ k, ac.length ≤ (lokA f n ac k).length := by
  intro k
  induction k with
  | zero => exact Nat.le_refl _
  | succ k ih =>
    simp only [lokA]
    split
    · exact Nat.le_trans ih (adA_ge _ _ _)
    · exact ih
theorem k_kids (hn : RKn g nm S) (hf : RKf g f S) (A : AC f rk) (h : RKa g ac S) (hF : FR g S) (hB : AB f ac) (h6 : fMd f ≤ 60) (hk : n < fMd f) (b : fFo f n = true) : ∃ S' g', n_X1_look_b122 S (some (g.2 1 0)) (some (g.2 2 n)) = some ((), S') ∧ KX [0, 11, 23] [11] (fMd f + 2 * ((lokA f n ac (fMd f)).length - ac.length)) g S g' S' ∧ RKa g' (lokA f n ac (fMd f)) S' ∧ FR g' S' := by
  have key := lp_ex (fun m k (c : St × GA) => n_X1_look_b124 m c.1 (some (g.2 1 0)) (some (g.2 2 n)) (nI k)) (fun k c => KX [0, 11, 23] [11] (k + 2 * ((lokA f n ac k).length - ac.length)) g S c.2 c.1 ∧ RKa c.2 (lokA f n ac k) c.1 ∧ FR c.2 c.1) (fun b => ∃ S' g', b = ((), S') ∧ KX [0, 11, 23] [11] (fMd f + 2 * ((lokA f n ac (fMd f)).length - ac.length)) g S g' S' ∧ RKa g' (lokA f n ac (fMd f)) S' ∧ FR g' S') (fMd f) ?_ ?_ FU 0 (S, g) (by omega) (by simp only [FU]; omega) ⟨KX_n (KX_rf (by decide)) (Nat.zero_le _), h, hF⟩
  · obtain ⟨q, k1, S', g', rfl, k2⟩ := key
    rw [nI_0] at k1
    exact ⟨S', g', k1, k2⟩
  · intro m k ⟨S1, g1⟩ hkf ⟨x1, ra1, F1⟩
    refine Or.inl ?_
    have n1 := hn.kx x1
    have f1 := hf.kx x1
    have a10 : g1.2 1 0 = g.2 1 0 := by rw [x1.ad (by decide)]
    have a2 : g1.2 2 = g.2 2 := x1.ad (by decide)
    have a20 : g1.2 20 0 = g.2 20 0 := by rw [x1.ad (by decide)]
    have q0 := kn_0 n1
    have qcl := n1.cl
    have ncl := f1.1.cl
    have sz := ndl_size f1
    have gt := ndl_get f1 h6 hkf
    have kcl := f1.cl hkf
    have n8 := nd_8 f1 hkf
    have n22 := nd_2 f1 hkf
    have n21 := nd_1 f1 hk
    rw [a10] at q0 qcl
    rw [a20] at q0 ncl sz gt
    rw [a2] at gt kcl n8 n22 n21
    have hAB := lokA_AB (n := n) hB k (Nat.le_of_lt hkf)
    have hpar : ((fPa f k).map (g.2 2) = some (g.2 2 n)) = (fPa f k = some n) := by
      rw [← a2]; exact nd_opt f1 (fun q hq => ((A k hkf).2 q hq).1) hk
    simp only [n_X1_look_b124, n_X1_look_b201, q0, ob_s, ncl, gd_t, sz, bn_s, nI_leE (show fMd f < 2 ^ 31 by omega) (show k < 2 ^ 31 by omega), n21, b2i_0, b, Bool.true_eq_false, if_false, gt, gcst_g kcl, n8, n22, hpar, nI_1]
    rw [if_neg (by omega)]
    have skip : (!fGo f k && fPa f k == some n) = false → (KX [0, 11, 23] [11] (k + 1 + 2 * ((lokA f n ac (k + 1)).length - ac.length)) g S g1 S1 ∧ RKa g1 (lokA f n ac (k + 1)) S1 ∧ FR g1 S1) := fun hc => by
      have e : lokA f n ac (k + 1) = lokA f n ac k := by simp only [lokA, hc, Bool.false_eq_true, if_false]
      rw [e]
      exact ⟨KX_n x1 (by omega), ra1, F1⟩
    rcases Bool.eq_false_or_eq_true (fGo f k) with b2 | b2
    · rw [if_neg (by rw [b2]; decide)]
      exact ⟨(S1, g1), skip (by simp [b2]), rfl⟩
    · rw [if_pos b2]
      by_cases ep : fPa f k = some n
      · rw [if_pos ep]
        obtain ⟨S2, g2, b1, b2', b3, b4⟩ := k_add n1 f1 ra1 F1 hAB h6 hkf false
        rw [a10, a2] at b1
        have e : lokA f n ac (k + 1) = adA (lokA f n ac k) k false := by simp only [lokA]; rw [if_pos (by simp [b2, ep])]
        refine ⟨(S2, g2), ⟨?_, by rw [e]; exact b3, b4⟩, ?_⟩
        · have := lokA_ge f n ac k
          have := adA_ge (lokA f n ac k) k false
          rw [e]
          exact KX_n (KX_tr x1 b2') (by omega)
        · rw [show n_X1_add S1 (some (g.2 1 0)) (some (g.2 2 k)) 0 = some ((), S2) from b1, qcl, gd_t, bn_s]
      · rw [if_neg ep]
        exact ⟨(S1, g1), skip (by simp [ep]), rfl⟩
  · intro m ⟨S1, g1⟩ ⟨x1, ra1, F1⟩
    refine ⟨_, ?_, S1, g1, rfl, x1, ra1, F1⟩
    have n1 := hn.kx x1
    have f1 := hf.kx x1
    have q0 := kn_0 n1
    have ncl := f1.1.cl
    have sz := ndl_size f1
    rw [show g1.2 1 0 = g.2 1 0 by rw [x1.ad (by decide)], show g1.2 20 0 = g.2 20 0 by rw [x1.ad (by decide)]] at q0
    rw [show g1.2 20 0 = g.2 20 0 by rw [x1.ad (by decide)]] at ncl sz
    simp only [n_X1_look_b124, q0, ob_s, ncl, gd_t, sz, bn_s, Int32.le_refl, if_true]
theorem k_kids0 (hn : RKn g nm S) (hf : RKf g f S) (hk : n < fMd f) (b : fFo f n = false) : n_X1_look_b122 S (some (g.2 1 0)) (some (g.2 2 n)) = some ((), S) := by
  obtain ⟨q, hq⟩ : ∃ q, FU = q + 1 := ⟨99999, rfl⟩
  simp only [n_X1_look_b122, hq, n_X1_look_b124, kn_0 hn, ob_s, hf.1.cl, gd_t, ndl_size hf, bn_s, nd_1 hf hk, b2i_0, b, if_true, ite_self]
end
