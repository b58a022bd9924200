/-! the keeper's calls: stale, move -/
section
variable {S S' S1 : St} {g g' : GA} {T U : List Nat} {n m a b c x y t i : Nat} {f f' : Fl} {rs : List RtV} {en : En} {o : Nat → Option Nat} {ac : List AcV} {sg : List SgV} {w : Int64} {nm : Nm} {s : Sg} {rk : Nat → Nat} {k p : Nat} {e : EnV}
theorem k_stale (h : RK g s S) (A : AC (zF s) rk) (h6 : fMd (zF s) ≤ 60) (hR : RS (zF s) (zR s)) (hE : ES (zF s) (zE s)) (hF : FS (zF s)) : KI 60 g S (n_X1_stale S (some (g.2 1 0))) (opStale s) := by
  have hz : fMd (zF s) < 2 ^ 31 := by omega
  have key := lp_ex (fun m k (c : St) => n_X1_stale_b4 m c (some (g.2 1 0)) (nI (cnB (stlB s) k)) (nI k)) (fun k c => KX [0] [] k g S g c) (fun b => ∃ S', b = (nI (cnB (stlB s) (fMd (zF s))), S') ∧ KX [0] [] (fMd (zF s)) g S g S') (fMd (zF s)) ?_ ?_ FU 0 S (Nat.zero_le _) (by simp only [FU]; omega) (KX_rf (by decide))
  · obtain ⟨b, k1, S', rfl, k2⟩ := key
    simp only [cnB, nI_0] at k1
    exact ⟨S', g, k1, KX_all k2 h6, h.kx0 k2⟩
  · intro m k c hk hx
    refine Or.inl ?_
    obtain ⟨h1, h2, h3, h4, h5, h6', h7, h8⟩ := h.kx0 hx
    obtain ⟨S2, a1, a2⟩ := k_above h1 h2 h3 h8 A hR hk
    have f2 := h2.kx a2
    have e2 := h4.kx a2
    refine ⟨S2, KX_tr hx a2, ?_⟩
    have h138 : ∀ (q : Nat), n_X1_stale_b138 (n_X1_stale_b4 m) S2 (some (g.2 1 0)) (nI k) 1 (nI q) = n_X1_stale_b4 m S2 (some (g.2 1 0)) (nI (q + 1)) (nI (k + 1)) := fun q => by simp only [n_X1_stale_b138, nI_1]
    have h1380 : ∀ (q : Nat), n_X1_stale_b138 (n_X1_stale_b4 m) S2 (some (g.2 1 0)) (nI k) 0 (nI q) = n_X1_stale_b4 m S2 (some (g.2 1 0)) (nI q) (nI (k + 1)) := fun q => by simp only [n_X1_stale_b138, nI_1, Int32.add_zero]
    have h100 : ∀ (th cur : Bool) (q : Nat), n_X1_stale_b100 (n_X1_stale_b4 m) S2 (some (g.2 1 0)) (nI q) (nI k) (some (g.2 2 k)) (if (zE s k).isSome then some (g.2 9 k) else none) (b2i th) (b2i cur) = n_X1_stale_b4 m S2 (some (g.2 1 0)) (nI (q + if (if th then !fFo (zF s) k && !cur else (zE s k).isSome) then 1 else 0)) (nI (k + 1)) := by
      intro th cur q
      simp only [n_X1_stale_b100, n_X1_stale_b120, b2i_0, nd_1 f2 hk, ob_s, h138, h1380]
      cases th with
      | false =>
        rcases Bool.eq_false_or_eq_true (zE s k).isSome with b | b <;> simp [b]
      | true =>
        rcases Bool.eq_false_or_eq_true (fFo (zF s) k) with b | b
        · simp [b]
        · cases cur <;> simp [b]
    have h52 : ∀ (th : Bool) (q : Nat), n_X1_stale_b52 (n_X1_stale_b4 m) S2 (some (g.2 1 0)) (nI q) (nI k) (some (g.2 2 k)) (if (zE s k).isSome then some (g.2 9 k) else none) (b2i th) = n_X1_stale_b4 m S2 (some (g.2 1 0)) (nI (q + if (if th then !fFo (zF s) k && !kno (zF s) (zE s) k else (zE s k).isSome) then 1 else 0)) (nI (k + 1)) := by
      intro th q
      have h99 : n_X1_stale_b99 (n_X1_stale_b4 m) S2 (some (g.2 1 0)) (nI q) (nI k) (some (g.2 2 k)) (if (zE s k).isSome then some (g.2 9 k) else none) (b2i th) = _ := h100 th false q
      have h100t : n_X1_stale_b100 (n_X1_stale_b4 m) S2 (some (g.2 1 0)) (nI q) (nI k) (some (g.2 2 k)) (if (zE s k).isSome then some (g.2 9 k) else none) (b2i th) 1 = _ := h100 th true q
      cases hek : zE s k with
      | none =>
        rw [hek] at h99
        simp only [n_X1_stale_b52, Option.isSome_none, Bool.false_eq_true, if_false, if_true] at h99 ⊢
        rw [h99]
        simp [kno, hek]
      | some ev =>
        obtain ⟨b1, b2, b3, b4⟩ := hE k ev hek
        have hpq : ∀ q, fPa (zF s) k = some q → q < fMd (zF s) := fun q hq => ((A k hk).2 q hq).1
        rw [hek] at h99 h100t
        have hpp : (some (g.2 2 ev.1) = (fPa (zF s) k).map (g.2 2)) = (some ev.1 = fPa (zF s) k) := by
          have := nd_opt f2 hpq b2
          exact propext ⟨fun e => (Eq.mp this e.symm).symm, fun e => (Eq.mpr this e.symm).symm⟩
        have hed := (hF k hk).1
        simp only [n_X1_stale_b52, Option.isSome_some, if_true, reduceCtorEq, if_false, en_1 e2 hek, nd_2 f2 hk, ob_s, hpp, en_2 e2 hek, nd_3 f2 hk, en_3 e2 hek, nd_4 f2 hk, nI_eqE (show ev.2.2.1 < 2 ^ 31 by omega) (show fEd (zF s) k < 2 ^ 31 by omega)] at h99 h100t ⊢
        rw [h99, h100t]
        simp only [kno, hek]
        by_cases c1 : some ev.1 = fPa (zF s) k
        · by_cases c2 : ev.2.1 = fNm (zF s) k
          · by_cases c3 : ev.2.2.1 = fEd (zF s) k
            · rcases Bool.eq_false_or_eq_true (fFo (zF s) k) with b | b <;> simp [c1, c2, c3, b]
            · rcases Bool.eq_false_or_eq_true (fFo (zF s) k) with b | b <;> simp [c1, c2, c3, b, beq_false_of_ne c3]
          · simp [c1, c2, beq_false_of_ne c2]
        · simp [c1, beq_false_of_ne c1]
    have h52t : ∀ q, n_X1_stale_b52 (n_X1_stale_b4 m) S2 (some (g.2 1 0)) (nI q) (nI k) (some (g.2 2 k)) (if (zE s k).isSome then some (g.2 9 k) else none) 1 = _ := fun q => h52 true q
    have h52f : ∀ q, n_X1_stale_b52 (n_X1_stale_b4 m) S2 (some (g.2 1 0)) (nI q) (nI k) (some (g.2 2 k)) (if (zE s k).isSome then some (g.2 9 k) else none) 0 = _ := fun q => h52 false q
    simp only [n_X1_stale_b4, kn_0 h1, ob_s, h2.1.cl, gd_t, ndl_size h2, bn_s, nI_leE hz (show k < 2 ^ 31 by omega), ndl_get h2 h6 hk, gcst_g (h2.cl hk), kn_2 h1, en_get h4 (show k < 60 by omega), h1.cl, a1]
    rw [if_neg (by omega)]
    simp only [cnB, stlB]
    have cn : ((abv (zF s) (zR s) k).map (g.2 4) = none) = ((abv (zF s) (zR s) k).isSome = false) := by
      cases abv (zF s) (zR s) k <;> simp
    simp only [cn]
    rcases Bool.eq_false_or_eq_true (abv (zF s) (zR s) k).isSome with b | b
    · rw [if_neg (by rw [b]; decide), h52t]; simp [b]
    · rw [if_pos b, h52f]; simp [b]
  · intro m c hx
    have H := h.kx0 hx
    refine ⟨_, ?_, c, rfl, hx⟩
    simp only [n_X1_stale_b4, kn_0 H.1, ob_s, H.2.1.1.cl, gd_t, ndl_size H.2.1, bn_s, nI_leE hz hz, Nat.le_refl, if_true, rt_i, id]
theorem abv_root_in {rs : List RtV} {r : Nat} (h : abv f rs k = some r) : ∃ q ∈ rs, q.1 = r := abv_in h
theorem k_move (h : RK g s S) (A : AC (zF s) rk) (h6 : fMd (zF s) ≤ 60) (hT : RT (zF s) (zR s)) (hN : ((zR s).map (·.1)).Nodup) (h0 : ∀ k, k < fMd (zF s) → (fPa (zF s) k = none ↔ k = 0)) (x y nm : Int32) (hx : ∀ n p, ndA (zF s) x = some n → n ≠ 0 → foA (zF s) y = some p → hasA (zF s) n p = false → (holR (zF s) (zR s) n = true → isR (zR s) p = false ∧ abv (zF s) (zR s) p = none) → ∃ rk', AC (movF (zF s) n p nm) rk') : KO [IOE, IAE, ISE] 10 g S (n_X1_move S (some (g.2 1 0)) x y nm) (opMove s x y nm) := by
  have hh := h
  obtain ⟨h1, h2, h3, h4, h5, h6', h7, h8⟩ := h
  have bad1 : ∀ v, KO [IOE, IAE, ISE] 10 g S (n_X1_move_b25 S (some (g.2 1 0)) y nm v 0) (1, 0, s) := fun v => by
    simp only [n_X1_move_b25, k_need0, tbn_x]
    exact KO_x (j := 0) rfl hh 0 (by decide) (by decide)
  simp only [n_X1_move, n_X1_move_b24, h1.cl, gd_t, k_nodeAt h1 h2 h6, bn_s, opMove]
  cases hfi : ndA (zF s) x with
  | none => simp only [Option.map_none, if_true]; exact bad1 _
  | some n =>
    have hn := ndA_bd h6 hfi
    simp only [Option.map_some, reduceCtorEq, if_false, nd_2 h2 hn, ob_s, Option.map_eq_none_iff, h0 n hn]
    by_cases n0 : n = 0
    · rw [if_pos n0, if_pos n0]; exact bad1 _
    · rw [if_neg n0, if_neg n0]
      simp only [n_X1_move_b25, k_need1, tbn_s, h1.cl, gd_t, k_folderAt h1 h2 h6]
      cases hfo : foA (zF s) y with
      | none => exact KO_x (j := 0) rfl hh 0 (by decide) (by decide)
      | some p =>
        obtain ⟨hp, -, hpg, hpf⟩ := foA_some hfo h6
        simp only [tbn_s, k_isName, bn_s]
        rcases Bool.eq_false_or_eq_true (inI nm 97 122) with b1 | b1
        · simp only [b1, b2i_t, k_check1, tbn_s, Bool.true_eq_false, if_false, nd_some h2 hp hn, h2.cl hp, gd_t, k_isBelow h2 A hp hn, bn_s, b2i_0, h1.cl]
          have bad3 : ∀ {c : Nat} {S1 : St}, KX [0] [] c g S g S1 → c ≤ 5 → KO [IOE, IAE, ISE] 10 g S (n_X1_move_b86 S1 (some (g.2 1 0)) nm (some (g.2 2 n)) (some (g.2 2 p))) (3, 0, s) := fun {c S1} hx hc => by
            simp only [n_X1_move_b86, n_X1_move_b87, k_poss0, tbn_x]
            exact KO_x2 (j := 2) rfl hh 0 (by decide) (KX_tr hx (KX_ssk (FR_sm h8.2.2.2 hx.le) (T := [0]) (U := []))) (by omega)
          by_cases e1 : p = n
          · rw [if_pos e1, if_pos (Or.inl (by simp [hasA, e1]))]
            exact bad3 (KX_rf (by decide)) (by decide)
          · rw [if_neg e1]
            rcases Bool.eq_false_or_eq_true (blw (zF s) p n) with b2 | b2
            · rw [if_neg (by rw [b2]; decide), if_pos (Or.inl (by simp [hasA, b2]))]
              exact bad3 (KX_rf (by decide)) (by decide)
            · have hha : hasA (zF s) n p = false := by simp [hasA, b2, beq_false_of_ne e1]
              have ht := k_isTaken h1 h2 A h6 hp nm (some n) (fun _ h => by cases h; exact hn)
              rw [Option.map_some] at ht
              rw [if_pos b2]
              simp only [ht, bn_s, b2i_0]
              rcases Bool.eq_false_or_eq_true (tkn (zF s) p nm (some n)) with b3 | b3
              · rw [if_neg (by rw [b3]; decide), if_pos (Or.inr (Or.inl b3))]
                exact bad3 (KX_rf (by decide)) (by decide)
              · rw [if_pos b3]
                obtain ⟨S1, w1, w2⟩ := k_wouldNest h1 h2 h3 h8 A hT.toS hn hp
                have H1 := hh.kx0 w2
                have eN : (holR (zF s) (zR s) n && (zR s).any fun r => hasA (zF s) r.1 p) = decide (holR (zF s) (zR s) n = true ∧ (isR (zR s) p = true ∨ (abv (zF s) (zR s) p).isSome = true)) := by
                  have q1 : ((zR s).any fun r => hasA (zF s) r.1 p) = (isR (zR s) p || (abv (zF s) (zR s) p).isSome) := by
                    unfold abv isR
                    rw [hpg]
                    simp only [Bool.false_eq_true, if_false, Option.isSome_map]
                    rw [Bool.eq_iff_iff]
                    simp only [List.any_eq_true, Bool.or_eq_true, List.find?_isSome, hasA, beq_iff_eq]
                    constructor
                    · rintro ⟨r, hr, z | z⟩
                      · exact Or.inl ⟨r, hr, z.symm⟩
                      · exact Or.inr ⟨r, hr, z⟩
                    · rintro (⟨r, hr, z⟩ | ⟨r, hr, z⟩)
                      · exact ⟨r, hr, Or.inl z.symm⟩
                      · exact ⟨r, hr, Or.inr z⟩
                  rw [q1]
                  rw [Bool.eq_iff_iff]; simp
                simp only [h1.cl, gd_t, w1, bn_s, b2i_0, eN]
                by_cases c4 : holR (zF s) (zR s) n = true ∧ (isR (zR s) p = true ∨ (abv (zF s) (zR s) p).isSome = true)
                · rw [if_neg (by rw [decide_eq_true c4]; decide), if_pos (Or.inr (Or.inr c4))]
                  exact bad3 w2 (by decide)
                · have hsp : ¬ (hasA (zF s) n p = true ∨ tkn (zF s) p nm (some n) = true ∨ holR (zF s) (zR s) n = true ∧ (isR (zR s) p = true ∨ (abv (zF s) (zR s) p).isSome = true)) := by
                    rintro (z | z | z)
                    · rw [hha] at z; cases z
                    · rw [b3] at z; cases z
                    · exact c4 z
                  rw [if_pos (decide_eq_false c4), if_neg hsp]
                  obtain ⟨rk', A'⟩ := hx n p hfi n0 hfo hha (fun hh1 => by
                    refine ⟨?_, ?_⟩
                    · cases hq : isR (zR s) p with
                      | false => rfl
                      | true => exact absurd ⟨hh1, Or.inl hq⟩ c4
                    · cases hq : abv (zF s) (zR s) p with
                      | none => rfl
                      | some r => exact absurd ⟨hh1, Or.inr (by rw [hq]; rfl)⟩ c4)
                  obtain ⟨q, hq⟩ : ∃ q, fPa (zF s) n = some q := by
                    cases hq : fPa (zF s) n with
                    | none => exact absurd ((h0 n hn).mp hq) n0
                    | some q => exact ⟨q, rfl⟩
                  have hqb := ((A n hn).2 q hq).1
                  have f1 := H1.2.1
                  obtain ⟨S2, a1, a2⟩ := k_above H1.1 f1 H1.2.2.1 H1.2.2.2.2.2.2.2 A hT.toS hn
                  have H2 := H1.kx0 a2
                  have hc2 := (H2.2.1.2.2 n hn).1
                  obtain ⟨f', ef⟩ : ∃ f', f' = movF (zF s) n p nm := ⟨_, rfl⟩
                  obtain ⟨S3, e3⟩ : ∃ S3, S3 = sup S2 (g.2 2 n) (ndC g f' n) := ⟨_, rfl⟩
                  obtain ⟨S2a, e2a⟩ : ∃ S2a, S2a = sup S2 (g.2 2 n) (cO 1 [vI (nI n), vI (b2i (fFo (zF s) n)), vR (some (g.2 2 p)), vI (fNm (zF s) n), vI (nI (fEd (zF s) n)), vR (some (g.2 3 n)), vI (b2i (fLk (zF s) n)), vI (fPp (zF s) n), vI (b2i (fGo (zF s) n))]) := ⟨_, rfl⟩
                  have p2 : pR S2 (some (g.2 2 n)) 1 2 (some (g.2 2 p)) = some S2a := by rw [e2a, pR_e hc2, if_pos (by simp)]; rfl
                  have c2a : S2a.1 (g.2 2 n) = some (cO 1 [vI (nI n), vI (b2i (fFo (zF s) n)), vR (some (g.2 2 p)), vI (fNm (zF s) n), vI (nI (fEd (zF s) n)), vR (some (g.2 3 n)), vI (b2i (fLk (zF s) n)), vI (fPp (zF s) n), vI (b2i (fGo (zF s) n))]) := by rw [e2a]; exact sup_at _ _ _
                  have p3 : pI .char S2a (some (g.2 2 n)) 1 3 nm = some S3 := by
                    simp only [pI, nm_fit b1, if_true, pF_e c2a]
                    rw [if_pos (by simp), e3, e2a, sup_sup, ef]
                    refine congrArg some (congrArg (sup S2 (g.2 2 n)) ?_)
                    show _ = cO 1 [_, _, vR ((fu (fPa (zF s)) n (some p) n).map (g.2 2)), vI (fu (fNm (zF s)) n nm n), _, _, _, _, _]
                    rw [fu_s, fu_s]
                    rfl
                  obtain ⟨H3, x3⟩ := RK_nd H2 hn f' e3 (by rw [ef]; rfl) (fun j _ => by rw [ef]; rfl) (fun j _ hj => by
                    rw [ef]
                    show cO 1 [_, _, vR ((fu (fPa (zF s)) n (some p) j).map (g.2 2)), vI (fu (fNm (zF s)) n nm j), _, _, _, _, _] = _
                    rw [fu_n _ _ hj, fu_n _ _ hj]
                    rfl)
                  have hT' : RS f' (zR s) := by rw [ef]; exact hT.toS
                  obtain ⟨S4, b41, b42⟩ := k_above (k := n) H3.1 H3.2.1 H3.2.2.1 H3.2.2.2.2.2.2.2 (by rw [ef]; exact A') hT' (by rw [ef]; exact hn)
                  have H4 := H3.kx0 b42
                  have b41 : n_X1_above S3 (some (g.2 1 0)) (some (g.2 2 n)) = some ((abv f' (zR s) n).map (g.2 4), S4) := b41
                  have xA : KX TT UU 4 g S g S4 := KX_n (KX_tr (KX_tr (KX_all (KX_tr w2 a2) (Nat.le_refl _)) (KX_all x3 (Nat.le_refl _))) (KX_all b42 (Nat.le_refl _))) (by decide)
                  have cmp : (((abv (zF s) (zR s) n).map (g.2 4)) = ((abv f' (zR s) n).map (g.2 4))) = (abv (zF s) (zR s) n = abv f' (zR s) n) := by
                    cases ha : abv (zF s) (zR s) n with
                    | none => cases hb : abv f' (zR s) n <;> simp
                    | some u =>
                      cases hb : abv f' (zR s) n with
                      | none => simp
                      | some v =>
                        obtain ⟨r1, hr1, rfl⟩ := abv_in ha
                        obtain ⟨r2, hr2, rfl⟩ := abv_in hb
                        simp only [Option.map_some, Option.some.injEq, rt_inj h3 hr1 hr2]
                  have vp : (gI S1 ((some q).map (g.2 2)) 1 0) = some (nI q) := nd_0 f1 hqb
                  have Rn := H1.1
                  simp only [n_X1_move_b87, k_poss1, tbn_s, nd_2 f1 hn, ob_s, hq, vp, Rn.cl, gd_t, a1, bn_s, p2, p3, H3.1.cl, b41, cmp, H4.1.cl]
                  have tS : ∀ (rs' : List RtV) (S5 : St) (g5 : GA) (c5 : Nat), RK g5 (wR (wF s f') rs') S5 → g5.2 = g.2 → KX TT UU c5 g S g5 S5 → c5 ≤ 6 → (rs'.map (·.1)).Nodup → RT f' rs' → (∀ a, abv f' (zR s) n = some a → ∃ r ∈ rs', r.1 = a) → KO [IOE, IAE, ISE] 10 g S (n_X1_move_b147 S5 (some (g.2 1 0)) (some (g.2 2 n)) (nI q) ((abv f' (zR s) n).map (g.2 4))) (0, prI (some q), wR (wF s f') (telS rs' (abv f' (zR s) n) 0 n)) := by
                    intro rs' S5 g5 c5 H5 e5 x5 hc5 hN5 hT5 ho5
                    obtain ⟨S6, g6, t1, t2, t3, t4, t5⟩ := k_tell H5.2.2.1 H5.2.2.2.2.2.2.2.2.2.2 hT5 hN5 ho5 0 n
                    rw [e5] at t1
                    have cl := H5.1.cl
                    rw [e5] at cl
                    simp only [n_X1_move_b147, cl, gd_t]
                    rw [show S5.2.2.2 1 = S5.2.2.2 (0 + 1) from rfl, t1, bn_s, rt_i]
                    exact KO_s (KX_n (KX_tr x5 (KX_all t2 (Nat.le_refl _))) (by omega)) ⟨H5.1.kx t2, H5.2.1.kx t2, t5, H5.2.2.2.1.kx t2, H5.2.2.2.2.1.kx t2, H5.2.2.2.2.2.1.kx t2, H5.2.2.2.2.2.2.1.kx t2, H5.2.2.2.2.2.2.2.kx t2 t4⟩
                  have hTf : RT f' (zR s) := by rw [ef]; exact hT
                  simp only [movR, ← ef]
                  by_cases ce : abv (zF s) (zR s) n = abv f' (zR s) n
                  · rw [if_pos ce, if_pos ce]
                    exact tS (zR s) S4 g 4 H4 rfl xA (by decide) hN hTf (fun a ha => abv_in ha)
                  · rw [if_neg ce, if_neg ce]
                    obtain ⟨S5, g5, t1, t2, t3, t4, t5⟩ := k_tell H4.2.2.1 H4.2.2.2.2.2.2.2.2.2.2 hT hN (o := abv (zF s) (zR s) n) (fun a ha => abv_in ha) 2 n
                    have H5 : RK g5 (wR (wF s f') (telS (zR s) (abv (zF s) (zR s) n) 2 n)) S5 := ⟨H4.1.kx t2, H4.2.1.kx t2, t5, H4.2.2.2.1.kx t2, H4.2.2.2.2.1.kx t2, H4.2.2.2.2.2.1.kx t2, H4.2.2.2.2.2.2.1.kx t2, H4.2.2.2.2.2.2.2.kx t2 t4⟩
                    rw [show S4.2.2.2 3 = S4.2.2.2 (2 + 1) from rfl, t1, bn_s]
                    have hmap : (telS (zR s) (abv (zF s) (zR s) n) 2 n).map (·.1) = (zR s).map (·.1) := by
                      cases abv (zF s) (zR s) n with
                      | none => rfl
                      | some u => exact updR_map u _ (fun r => telR_1 _ _ r)
                    refine tS _ S5 g5 6 H5 t3 (KX_n (KX_tr xA (KX_all t2 (Nat.le_refl _))) (by decide)) (by decide) (by rw [hmap]; exact hN) (RT_tel hTf _ (by decide) (by rw [ef]; exact hn)) (fun a ha => ?_)
                    obtain ⟨r, hr, er⟩ := abv_in ha
                    have : a ∈ (telS (zR s) (abv (zF s) (zR s) n) 2 n).map (·.1) := by rw [hmap]; exact List.mem_map.mpr ⟨r, hr, er⟩
                    obtain ⟨r', hr', er'⟩ := List.mem_map.mp this
                    exact ⟨r', hr', er'⟩
        · simp only [b1, b2i_f, k_check0, tbn_x, if_true]
          exact KO_x (j := 1) rfl hh 0 (by decide) (by decide)
end
