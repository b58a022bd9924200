/-! the keeper's work: words are taken -/
/-- is the bracket closed -/
def clD (m : Int32) (d : Nat) : Nat := if m = -2 then d + 1 else if m = -3 then d - 1 else d
def cls : List Int32 → Nat → Bool
  | [], _ => false
  | m :: l, d => if clD m d = 0 then true else cls l (clD m d)
/-- a Taking: its marks, its words, where it is -/
def TKs (g : GA) (S : St) (T A L : Nat) (dl most : Int32) (ms W : List Int32) (j : Nat) : Prop := S.1 T = some (cO 6 [vR (some A), vI dl, vI most, vR (some L), vI (nI j)]) ∧ isAL S A (ms.map (bxr S)) ∧ isAL S L (W.map (bxr S)) ∧ alK S L ≤ 12 * W.length ∧ RKc g S ∧ W.length ≤ j ∧ g.1 T = (40, 0) ∧ g.1 L = (40, 1) ∧ (g.1 A).1 = 3
section
variable {S S' S1 : St} {g g' : GA} {T U : List Nat} {n m a b c x y t i j d : Nat} {f f' : Fl} {rs : List RtV} {en : En} {o : Nat → Option Nat} {ac : List AcV} {sg : List SgV} {w : Int64} {nm : Nm} {s : Sg} {rk : Nat → Nat} {k p : Nat} {e : EnV} {Q A L : Nat} {dl most : Int32} {ms W : List Int32}
theorem cls_opn : ∀ (l : List Int32) (d : Nat), 0 < d → (cls l d = true ↔ d ≤ opn l) := by
  intro l
  induction l with
  | nil => intro d hd; simp [cls, opn]; omega
  | cons m l ih =>
    intro d hd
    simp only [cls, opn, clD]
    by_cases e3 : m = -3
    · have e2 : ¬ m = -2 := by rw [e3]; decide
      simp only [e3, e2, if_true]
      rw [if_neg (show ¬ (-3 : Int32) = -2 by decide)]
      by_cases e1 : d - 1 = 0
      · rw [if_pos e1]; simp; omega
      · rw [if_neg e1, ih (d - 1) (by omega)]; omega
    · by_cases e2 : m = -2
      · simp only [e2, if_true]
        rw [if_neg (show ¬ (-2 : Int32) = -3 by decide), if_neg (by omega), ih (d + 1) (by omega)]
        omega
      · simp only [e3, e2, if_false]
        rw [if_neg (by omega), ih d hd]
theorem bx_gc (h : RKc g S) {x : Int32} (h1 : -128 ≤ x) (h2 : x ≤ 127) : gcst S (bxr S x) 16 = true := bx_cl h h1 h2
theorem end_b4 {fs : List TV} (hc : RKc g S) (hT : S.1 Q = some (cO 6 (vR (some A) :: fs))) (hA : isAL S A (ms.map (bxr S))) (hsm : ∀ m ∈ ms, Sm m) (hl : ms.length ≤ 20) : ∀ r j d m, j + r = ms.length → 0 < r → r < m → d ≤ j + 1 → (0 < d ∨ ms[j]? = some (-2)) → ∃ v, n_X8_end_b4 m S (some Q) (nI d) (nI j) = some (v, S) ∧ (v ≤ nI ms.length ↔ cls (ms.drop j) d = true) := by
  intro r
  induction r with
  | zero => intro j d m _ h; omega
  | succ r ih =>
    intro j d m hj _ hm hd hdj
    obtain ⟨m, rfl⟩ : ∃ m', m = m' + 1 := ⟨m - 1, by omega⟩
    have hjl : j < ms.length := by omega
    obtain ⟨mk, hmk⟩ : ∃ mk, ms[j]? = some mk := ⟨ms[j], List.getElem?_eq_getElem hjl⟩
    have hm2 := hsm mk (List.mem_of_getElem? hmk)
    have g0 : gR S (some Q) 6 0 = some (some A) := by rw [gR_e hT]; rfl
    have gt := al_get hA (i := j) (x := bxr S mk) (by omega) (by rw [List.getElem?_map, hmk]; rfl)
    have hdr : ms.drop j = mk :: ms.drop (j + 1) := by
      rw [List.drop_eq_getElem_cons hjl]
      rw [List.getElem?_eq_getElem hjl] at hmk
      rw [Option.some.inj hmk]
    have sz : h_J2_size S (some A) = some (nI ms.length, S) := by rw [al_size hA, List.length_map]
    have fin : ∀ (y0 : Int32), nI d + y0 = nI (clD mk d) → ∃ v, n_X8_end_b56 (n_X8_end_b4 m) S (some Q) (nI j) y0 (nI d) = some (v, S) ∧ (v ≤ nI ms.length ↔ cls (ms.drop j) d = true) := by
      intro y0 hy
      have hcd : clD mk d ≤ d + 1 := by
        unfold clD
        split
        · omega
        · split <;> omega
      have h0 : (nI (clD mk d) ≤ 0) = (clD mk d = 0) := by
        rw [li_0, nI_leE (by omega) (by decide)]; exact propext (by omega)
      simp only [n_X8_end_b56, n_X8_end_b78, hy, h0, g0, ob_s, hA.cl, gd_t, sz, bn_s, rt_i, id, nI_1, nI_ltE (show j + 1 < 2 ^ 31 by omega) (show ms.length < 2 ^ 31 by omega)]
      by_cases e0 : clD mk d = 0
      · simp only [e0, if_true]
        refine ⟨_, rfl, ?_⟩
        rw [nI_leE (by omega) (by omega), hdr]
        simp only [cls, e0, if_true, iff_true]
        omega
      · simp only [e0, if_false]
        by_cases el : j + 1 < ms.length
        · simp only [el, if_true]
          obtain ⟨v, v1, v2⟩ := ih (j + 1) (clD mk d) m (by omega) (by omega) (by omega) (by omega) (Or.inl (by omega))
          refine ⟨v, v1, ?_⟩
          rw [v2, hdr]
          simp only [cls, e0, if_false]
        · simp only [el, if_false]
          refine ⟨_, rfl, ?_⟩
          rw [nI_leE (by omega) (by omega), hdr, List.drop_eq_nil_of_le (by omega)]
          simp only [cls, e0, if_false]
          simp
    simp only [n_X8_end_b4, g0, ob_s, hA.cl, gd_t, gt, bn_s, bx_gc hc hm2.1 hm2.2, bx_cl hc hm2.1 hm2.2, k_intValue hc hm2.1 hm2.2]
    by_cases e2 : mk = -2
    · rw [if_pos e2]
      exact fin 1 (by rw [nI_1]; simp [clD, e2])
    · rw [if_neg e2]
      by_cases e3 : mk = -3
      · rw [if_pos e3]
        refine fin (-1) ?_
        have hd0 : 0 < d := by
          rcases hdj with z | z
          · exact z
          · rw [hmk] at z; exact absurd (Option.some.inj z) e2
        obtain ⟨d', rfl⟩ : ∃ d', d = d' + 1 := ⟨d - 1, by omega⟩
        rw [nI_m1]
        simp [clD, e3]
      · rw [if_neg e3]
        refine fin 0 ?_
        simp only [clD, e2, e3, if_false]
        exact Int32.add_zero _
theorem TKs.k40 (h : TKs g S Q A L dl most ms W j) : Q ≠ A ∧ Q ≠ L ∧ A ≠ L := by
  obtain ⟨-, -, -, -, -, -, h1, h2, h3⟩ := h
  have z1 : Q ≠ A := fun e => by
    rw [e] at h1; rw [h1] at h3; cases h3
  have z2 : Q ≠ L := fun e => by
    rw [e, h2] at h1; cases h1
  have z3 : A ≠ L := fun e => by
    rw [e, h2] at h3; cases h3
  exact ⟨z1, z2, z3⟩
theorem k_take_b0 (hsm : ∀ m ∈ ms, Sm m) (hl : ms.length ≤ 20) : ∀ r N m d j W S, r + j = ms.length → r ≤ N → r < m → d ≤ j → TKs g S Q A L dl most ms W j → ∃ b S' j' W', n_X8_take_b0 (n_X8_take N) m S (some Q) (nI d) = some (b2i b, S') ∧ KX [0, 40] [] (alK S' L - alK S L) g S g S' ∧ alK S L ≤ alK S' L ∧ TKs g S' Q A L dl most ms W' j' ∧ j ≤ j' ∧ j' ≤ ms.length ∧ (b = true → W' = W ++ tkW dl most (ms.drop j) d W.length) ∧ (b = false → (j' = ms.length ∨ 0 < d) ∧ W ++ tkW dl most (ms.drop j) d W.length = W' ++ tkW dl most (ms.drop j') (d - 1) W'.length) := by
  intro r
  induction r using Nat.strongRecOn with
  | _ r ih =>
    intro N m d j W S hj hN hm hd hTK
    obtain ⟨m, rfl⟩ : ∃ m', m = m' + 1 := ⟨m - 1, by omega⟩
    obtain ⟨n1, n2, n3⟩ := hTK.k40
    obtain ⟨hT, hA, hL, hK, hc, hWj, o1, o2, o3⟩ := hTK
    have hTK : TKs g S Q A L dl most ms W j := ⟨hT, hA, hL, hK, hc, hWj, o1, o2, o3⟩
    have g4 : gI S (some Q) 6 4 = some (nI j) := by rw [gI_e hT]; rfl
    have g0 : gR S (some Q) 6 0 = some (some A) := by rw [gR_e hT]; rfl
    have sz : h_J2_size S (some A) = some (nI ms.length, S) := by rw [al_size hA, List.length_map]
    simp only [n_X8_take_b0, g4, g0, ob_s, hA.cl, gd_t, sz, bn_s, nI_leE (show ms.length < 2 ^ 31 by omega) (show j < 2 ^ 31 by omega)]
    by_cases er : ms.length ≤ j
    · rw [if_pos er]
      refine ⟨false, S, j, W, by rw [rt_b0]; rfl, KX_n (KX_rf (by decide)) (Nat.zero_le _), Nat.le_refl _, hTK, Nat.le_refl _, by omega, (fun z => by cases z), fun _ => ⟨Or.inl (by omega), ?_⟩⟩
      rw [List.drop_eq_nil_of_le er]; rfl
    rw [if_neg er]
    have hjl : j < ms.length := by omega
    obtain ⟨mk, hmk⟩ : ∃ mk, ms[j]? = some mk := ⟨ms[j], List.getElem?_eq_getElem hjl⟩
    have hm2 := hsm mk (List.mem_of_getElem? hmk)
    have gt := al_get hA (i := j) (x := bxr S mk) (by omega) (by rw [List.getElem?_map, hmk]; rfl)
    have hdr : ms.drop j = mk :: ms.drop (j + 1) := by
      rw [List.drop_eq_getElem_cons hjl]
      rw [List.getElem?_eq_getElem hjl] at hmk
      rw [Option.some.inj hmk]
    simp only [gt, bn_s, bx_gc hc hm2.1 hm2.2, bx_cl hc hm2.1 hm2.2, gd_t, k_intValue hc hm2.1 hm2.2]
    -- the next place
    obtain ⟨S2, e2⟩ : ∃ S2, S2 = sup S Q (cO 6 [vR (some A), vI dl, vI most, vR (some L), vI (nI (j + 1))]) := ⟨_, rfl⟩
    have p2 : pI .int S (some Q) 6 4 (nI j + 1) = some S2 := by
      rw [e2, pI_e hT, if_pos (by simp), nI_1]; rfl
    have c2 : Ch Q 0 S S2 := by rw [e2]; exact Ch_sup _
    have x2 : KX [0, 40] [] 0 g S g S2 := KX_ch1 c2 o1
    have k2 : alK S2 L = alK S L := alK_fr (c2.1 L (Ne.symm n2))
    have bx2 : bxr S2 = bxr S := bxr_c c2.2.2.2.2
    have T2 : TKs g S2 Q A L dl most ms W (j + 1) := ⟨by rw [e2]; exact sup_at _ _ _, by rw [bx2]; exact hA.fr (c2.1 A (Ne.symm n1)), by rw [bx2]; exact hL.fr (c2.1 L (Ne.symm n2)), by rw [k2]; exact hK, hc.kx x2 (FR_sm hc.2.2.2 x2.le), by omega, o1, o2, o3⟩
    -- goes on from a later place
    have cont : ∀ (S3 : St) (W3 : List Int32) (j3 : Nat), j < j3 → j3 ≤ ms.length → TKs g S3 Q A L dl most ms W3 j3 → KX [0, 40] [] (alK S3 L - alK S L) g S g S3 → alK S L ≤ alK S3 L → W ++ tkW dl most (ms.drop j) d W.length = W3 ++ tkW dl most (ms.drop j3) d W3.length → ∃ b S' j' W', n_X8_take_b0 (n_X8_take N) m S3 (some Q) (nI d) = some (b2i b, S') ∧ KX [0, 40] [] (alK S' L - alK S L) g S g S' ∧ alK S L ≤ alK S' L ∧ TKs g S' Q A L dl most ms W' j' ∧ j ≤ j' ∧ j' ≤ ms.length ∧ (b = true → W' = W ++ tkW dl most (ms.drop j) d W.length) ∧ (b = false → (j' = ms.length ∨ 0 < d) ∧ W ++ tkW dl most (ms.drop j) d W.length = W' ++ tkW dl most (ms.drop j') (d - 1) W'.length) := by
      intro S3 W3 j3 h1 h2 hT3 hx3 hk3 hw
      obtain ⟨b, S', j', W', a1, a2, a3, a4, a5, a6, a7, a8⟩ := ih (ms.length - j3) (by omega) N m d j3 W3 S3 (by omega) (by omega) (by omega) (by omega) hT3
      exact ⟨b, S', j', W', a1, KX_n (KX_tr hx3 a2) (by omega), by omega, a4, by omega, a6, by rw [hw]; exact a7, by rw [hw]; exact a8⟩
    have b104 : mk ≠ -3 ∨ d = 0 → (mk = -2 → False) → ∃ b S' j' W', n_X8_take_b104 (n_X8_take N) (n_X8_take_b0 (n_X8_take N) m) S2 (some Q) (nI d) mk = some (b2i b, S') ∧ KX [0, 40] [] (alK S' L - alK S L) g S g S' ∧ alK S L ≤ alK S' L ∧ TKs g S' Q A L dl most ms W' j' ∧ j ≤ j' ∧ j' ≤ ms.length ∧ (b = true → W' = W ++ tkW dl most (ms.drop j) d W.length) ∧ (b = false → (j' = ms.length ∨ 0 < d) ∧ W ++ tkW dl most (ms.drop j) d W.length = W' ++ tkW dl most (ms.drop j') (d - 1) W'.length) := by
      intro h3 h2
      have skip : (W ++ tkW dl most (ms.drop j) d W.length = W ++ tkW dl most (ms.drop (j + 1)) d W.length) → _ := fun hw => cont S2 W (j + 1) (by omega) (by omega) T2 (KX_n x2 (Nat.zero_le _)) (by rw [k2]; exact Nat.le_refl _) hw
      have q1 : gI S2 (some Q) 6 1 = some dl := by rw [gI_e T2.1]; rfl
      have q2 : gI S2 (some Q) 6 2 = some most := by rw [gI_e T2.1]; rfl
      have q3 : gR S2 (some Q) 6 3 = some (some L) := by rw [gR_e T2.1]; rfl
      have sz2 : h_J2_size S2 (some L) = some (nI W.length, S2) := by rw [al_size T2.2.2.1, List.length_map]
      simp only [n_X8_take_b104, n_X8_take_b146, q1, q2, q3, ob_s, T2.2.2.1.cl, gd_t, sz2, bn_s, k_valueOf S2 hm2.1 hm2.2]
      by_cases em3 : mk = -3
      · have hd0 : d = 0 := by
          rcases h3 with z | z
          · exact absurd em3 z
          · exact z
        rw [if_pos (by rw [em3]; decide)]
        refine skip ?_
        rw [hdr, hd0]
        simp only [tkW, em3, if_true]
        rw [if_neg (by decide)]
      · by_cases en0 : mk < 0
        · rw [if_pos en0]
          refine skip ?_
          rw [hdr]
          simp only [tkW, em3, if_false, if_neg h2, en0, true_or, if_true]
        · rw [if_neg en0]
          by_cases edl : dl < nI d
          · rw [if_pos edl]
            refine skip ?_
            rw [hdr]
            simp only [tkW, em3, if_false, if_neg h2, edl, true_or, or_true, if_true]
          · rw [if_neg edl]
            by_cases emo : most ≤ nI W.length
            · rw [if_pos emo]
              refine skip ?_
              rw [hdr]
              simp only [tkW, em3, if_false, if_neg h2, emo, or_true, if_true]
            · rw [if_neg emo]
              obtain ⟨S3, a1, a2, a3, a4, a5⟩ := al_addK T2.2.2.1 (x := bxr S2 mk) (okst_g (c := 16) (bx_cl T2.2.2.2.2.1 hm2.1 hm2.2) (by decide)) (by rw [List.length_map]; omega)
              rw [List.length_map] at a4
              have x3 : KX [0, 40] [] (alK S3 L - alK S2 L) g S2 g S3 := KX_ch1 a5 o2
              have bx3 : bxr S3 = bxr S2 := bxr_c a5.2.2.2.2
              have T3 : TKs g S3 Q A L dl most ms (W ++ [mk]) (j + 1) := ⟨by rw [a5.1 Q n2]; exact T2.1, by rw [bx3]; exact T2.2.1.fr (a5.1 A n3), by rw [bx3, List.map_append]; exact a2, by
                rw [List.length_append]
                simp only [List.length_cons, List.length_nil]
                omega, T2.2.2.2.2.1.kx x3 (FR_sm T2.2.2.2.2.1.2.2.2 x3.le), by simp; omega, o1, o2, o3⟩
              simp only [a1, bn_s]
              refine cont S3 (W ++ [mk]) (j + 1) (by omega) (by omega) T3 (KX_n (KX_tr x2 x3) (by omega)) (by omega) ?_
              rw [hdr]
              simp only [tkW, em3, if_false, if_neg h2, en0, edl, emo, or_self, List.length_append, List.length_cons, List.length_nil, Nat.zero_add]
              simp
    by_cases em2 : mk = -2
    · rw [if_pos em2]
      obtain ⟨v, v1, v2⟩ := end_b4 hc hT hA hsm hl r j 0 FU (by omega) (by omega) (by simp only [FU]; omega) (by omega) (Or.inr (by rw [hmk, em2]))
      have hcl : (cls (ms.drop j) 0 = true) ↔ opn (ms.drop (j + 1)) ≠ 0 := by
        rw [hdr, em2]
        simp only [cls, clD, if_true]
        rw [if_neg (by omega), cls_opn _ _ (by omega)]
        omega
      rw [hcl] at v2
      have clT : grc S (some Q) 6 = true := grc_o hT
      rw [nI_0] at v1
      simp only [clT, gd_t, n_X8_end, g4, v1, bn_s, g0, ob_s, hA.cl, sz]
      by_cases ev : v ≤ nI ms.length
      · rw [if_pos ev]
        have ho := v2.mp ev
        have clT2 : grc S2 (some Q) 6 = true := grc_o T2.1
        obtain ⟨N, rfl⟩ : ∃ N', N = N' + 1 := ⟨N - 1, by omega⟩
        obtain ⟨b, S3, j3, W3, a1, a2, a3, a4, a5, a6, a7, a8⟩ := ih (ms.length - (j + 1)) (by omega) N FU (d + 1) (j + 1) W S2 (by omega) (by omega) (by simp only [FU]; omega) (by omega) T2
        have hw : tkW dl most (ms.drop j) d W.length = tkW dl most (ms.drop (j + 1)) (d + 1) W.length := by
          rw [hdr, em2]
          simp only [tkW, if_true, ho, if_false]
        have ee : n_X8_take (N + 1) S2 (some Q) (nI d + 1) = some (b2i b, S3) := by rw [nI_1]; exact a1
        have e23 : ¬ mk = -3 := by rw [em2]; decide
        have e24 : ¬ (-2 : Int32) = -3 := by decide
        simp only [n_X8_take_b64, g4, ob_s, p2, e23, e24, if_false, n_X8_take_b86, em2, if_true, clT2, gd_t, ee, bn_s, b2i_0]
        cases b with
        | true =>
          rw [if_neg (by decide)]
          refine ⟨true, S3, j3, W3, by rw [rt_b1]; rfl, KX_n (KX_tr x2 a2) (by omega), by omega, a4, by omega, a6, fun _ => by rw [hw]; exact a7 rfl, (fun z => by cases z)⟩
        | false =>
          rw [if_pos rfl]
          simp only [n_X8_take_b104, n_X8_take_b146]
          rw [if_pos (by decide)]
          have h8 := (a8 rfl).2
          rw [Nat.add_sub_cancel] at h8
          exact cont S3 W3 j3 (by omega) a6 a4 (KX_n (KX_tr x2 a2) (by omega)) (by omega) (by rw [hw]; exact h8)
      · rw [if_neg ev]
        have ho : opn (ms.drop (j + 1)) = 0 := by
          by_cases z : opn (ms.drop (j + 1)) = 0
          · exact z
          · exact absurd (v2.mpr z) ev
        refine ⟨true, S, j, W, by rw [rt_b1]; rfl, KX_n (KX_rf (by decide)) (Nat.zero_le _), Nat.le_refl _, hTK, Nat.le_refl _, by omega, fun _ => ?_, (fun z => by cases z)⟩
        rw [hdr, em2]
        simp only [tkW, if_true, ho]
        simp
    · rw [if_neg em2]
      simp only [n_X8_take_b64, g4, ob_s, p2]
      by_cases em3 : mk = -3
      · have e0 : (nI d ≤ (0 : Int32)) = (d ≤ 0) := by rw [li_0, nI_leE (by omega) (by decide)]
        rw [if_pos em3]
        simp only [e0]
        by_cases ed : d ≤ 0
        · rw [if_pos ed]
          simp only [n_X8_take_b86, em2, if_false]
          exact b104 (Or.inr (by omega)) em2
        · rw [if_neg ed]
          refine ⟨false, S2, j + 1, W, by rw [rt_b0]; rfl, KX_n x2 (Nat.zero_le _), by rw [k2]; exact Nat.le_refl _, T2, by omega, by omega, (fun z => by cases z), fun _ => ⟨Or.inr (by omega), ?_⟩⟩
          rw [hdr]
          simp only [tkW, em3, if_true]
          rw [if_neg (by decide)]
      · rw [if_neg em3]
        simp only [n_X8_take_b86, em2, if_false]
        exact b104 (Or.inl em3) em2
end
