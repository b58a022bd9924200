/-! the keeper's call work, whole -/
/-- what holds between calls, of roots, entries and segments -/
def SG (s : Sg) (rk : Nat → Nat) : Prop := IW s rk ∧ LU (zS s) ∧ zW s = 0 ∧ MkS (zF s) ∧ (zS s).length ≤ 3
section
variable {S S' S1 S0 : St} {g g' : GA} {T U : List Nat} {n m c x y t i j d : Nat} {f f' : Fl} {rs : List RtV} {en : En} {o : Nat → Option Nat} {ac : List AcV} {sg : List SgV} {w w' : Int64} {nm : Nm} {s : Sg} {rk : Nat → Nat} {k p : Nat} {e : EnV} {q l : List Nat} {r : RtV} {D L id : Nat} {left : Int32}
theorem phi_end (t : Int32 × Sg) (id : Nat) : phi (stor (endW t) id) = phi t.2 := by
  have h : nid (stor (endW t) id) = nid t.2 := by
    funext k
    have : (offA (zA t.2)).any (fun a => a.1 == k) = (zA t.2).any fun a => a.1 == k := by
      unfold offA
      rw [List.any_map]
      rfl
    show ((abv (zF t.2) (zR t.2) k).isSome || (zE t.2 k).isSome || (offA (zA t.2)).any (fun a => a.1 == k) || (zR t.2).any fun r => r.2.1.any fun p => p.2 == k) = _
    rw [this]
    rfl
  unfold phi nM1 nM2
  rw [h]
  rfl
theorem WB_0 : WB 0 := fun k _ _ => tb_0 k
theorem IW_stor (hI : IW s rk) (hU : LU (zS s)) (h3 : (zS s).length ≤ 3) (hid : ∀ x ∈ zS s, x.1 ≠ id) : IW (stor s id) rk ∧ LU (zS (stor s id)) ∧ (zS (stor s id)).length ≤ 3 := by
  obtain ⟨u1, u2, u3⟩ := stoS_ok hI hU h3 hid
  obtain ⟨A, h6, hT, hN, hB, hE, hF, hS, hF1, hE0, hW⟩ := hI
  refine ⟨⟨A, h6, hT, hN, hB, hE, hF, u2, hF1, hE0, fun k hk ht => ?_⟩, u1, u3⟩
  have ht : tb 0 k = true := ht
  rw [tb_0] at ht; cases ht
theorem k_work2 {K : Nat} {s0 : Sg} (h : RK g s S) (hG : SG s rk) (h40 : N40 g) (hid : ∀ x ∈ zS s, x.1 ≠ id) (hK : g.2 1 0 = K) {x : Int32} (hi : inI x 1 500 = true) : ∃ S' g' co, n_X1_work_b41 S (some K) x = some (Sum.inl (wrkL (mstN (zN s) x) 501 s 0).1, S') ∧ KX TT UU co g S g' S' ∧ co + phi (wrkL (mstN (zN s) x) 501 s 0).2 ≤ 500 * (fMd (zF s) + 26) + 358 + phi s ∧ RK g' (stor (endW (wrkL (mstN (zN s) x) 501 s 0)) id) S' ∧ SG (stor (endW (wrkL (mstN (zN s) x) 501 s 0)) id) rk ∧ zF (wrkL (mstN (zN s) x) 501 s 0).2 = zF s := by
  obtain ⟨hI, hU, hW, hsm, h3⟩ := hG
  have h1 := h.1
  have hm5 := mst_500 (zN s) hi
  obtain ⟨left, eleft⟩ : ∃ l, l = mstN (zN s) x := ⟨_, rfl⟩
  rw [← eleft] at hm5 ⊢
  have h41 : n_X1_work_b41 S (some K) x = n_X1_work_b66 FU S (some K) left (nI 0) := by
    have k7 := kn_7 h1
    have k9 := kn_9 h1
    rw [hK] at k7 k9
    rw [nI_0]
    simp only [n_X1_work_b41, n_X1_work_b63, k7, k9, ob_s, b2i_0, n_J7_min]
    rw [eleft]
    unfold mstN
    rcases Bool.eq_false_or_eq_true (zN s).2.1 with c | c
    · rw [if_neg (by rw [c]; decide)]
      by_cases c2 : x ≤ 20 - (zN s).2.2.2.1
      · rw [if_neg (Int32.not_lt.mpr c2), rt_i, bn_s, if_neg (by simp [c2])]
        rfl
      · rw [if_pos (Int32.not_le.mp c2), rt_i, bn_s, if_pos ⟨c, c2⟩]
        rfl
    · rw [if_pos c, if_neg (by simp [c])]
  obtain ⟨S1, g1, dn, co, a1, a2, -, a4, a5, a6, a7, a8, a9, a10, a11, a12, a13⟩ := k_wrk (K := K) hm5 501 FU s g S 0 (by omega) (Or.inl rfl) (by omega) (by simp only [FU]; omega) h hI hU (by rw [hW]; exact WB_0) hsm h40 hK
  rw [nI_0] at a2 a6 a7 a9 a10 a11 a12 a13
  obtain ⟨t, et⟩ : ∃ t, t = wrkL left 501 s 0 := ⟨_, rfl⟩
  rw [← et] at a2 a6 a7 a9 a10 a11 a12 a13 ⊢
  have hK1 : g1.2 1 0 = K := by rw [← hK, a5.ad (by decide)]
  obtain ⟨v, ev⟩ : ∃ v, v = wrkN (zN t.2) t.1 := ⟨_, rfl⟩
  obtain ⟨S2, e2⟩ : ∃ S2, S2 = sup S1 (g1.2 1 0) (cO 0 [vR (some (g1.2 20 0)), vR (some (g1.2 21 0)), vR (some (g1.2 22 0)), vR (some (g1.2 23 0)), vR (some (g1.2 24 0)), vR (some (g1.2 25 0)), vI v.1, vI (b2i v.2.1), vI v.2.2.1, vI v.2.2.2.1, vI v.2.2.2.2.1, vI v.2.2.2.2.2]) := ⟨_, rfl⟩
  obtain ⟨R2, x2⟩ := RK_num a7 v e2
  obtain ⟨S3, b1, b2, b3⟩ := k_off (s := wN t.2 v) R2 a9.2.2.2.2.1 a9.2.1 hK1 t.1
  have eW : wA (wN t.2 v) (offA (zA (wN t.2 v))) = endW t := by rw [ev]; rfl
  rw [eW] at b3
  have hl : (zS t.2).length = (zS s).length := by
    have := congrArg List.length a13
    simpa using this
  have hid1 : ∀ x ∈ zS (endW t), x.1 ≠ id := fun x hx e => by
    have hx : x ∈ zS t.2 := hx
    have : x.1 ∈ (zS s).map (·.1) := by rw [← a13]; exact List.mem_map.mpr ⟨x, hx, rfl⟩
    obtain ⟨y, hy, e2⟩ := List.mem_map.mp this
    exact hid y hy (by rw [e2, e])
  have hIe := IW_endW a9
  obtain ⟨S4, g4, c1, c2, c3⟩ := k_store b3 hIe a10 a11 (by show (zS t.2).length ≤ 3; omega) a8 hid1
  rw [hK1] at c1
  obtain ⟨d1, d2, d3⟩ := IW_stor hIe a10 (by show (zS t.2).length ≤ 3; omega) hid1
  have hAl := a9.2.2.2.2.1.len a9.2.1
  refine ⟨S4, g4, co + 0 + 1 + 230, ?_, KX_tr (KX_tr (KX_tr a5 (KX_all x2 (Nat.le_refl _))) (KX_all b2 (Nat.le_refl _))) c2, ?_, c3, ⟨d1, d2, rfl, by show MkS (zF t.2); rw [a12]; exact hsm, d3⟩, a12⟩
  · rw [h41, a1]
    have k7 := kn_7 a7.1
    have k9 := kn_9 a7.1
    have k3 := kn_3 R2.1
    rw [hK1] at k7 k9 k3
    have c23 := R2.2.2.2.2.1.1.cl
    have p2 : pI .int S1 (some K) 0 9 ((zN t.2).2.2.2.1 + if (zN t.2).2.1 then t.1 else 0) = some S2 := by
      rw [← hK1, e2, pI_e a7.1.1, if_pos (by simp), ev]; rfl
    have hb : ∀ y, y = (if (zN t.2).2.1 then t.1 else 0) → n_X1_work_b102 S1 (some K) t.1 y (zN t.2).2.2.2.1 (some K) = some (Sum.inl t.1, S4) := by
      intro y hy
      subst hy
      simp only [n_X1_work_b102, p2, ob_s, k3, c23, gd_t]
      rw [b1, c1, bn_s, rt_i]
    simp only [wkT, ← a2, k9, k7, ob_s, b2i_0]
    rcases Bool.eq_false_or_eq_true (zN t.2).2.1 with c | c
    · rw [if_neg (by rw [c]; decide)]; exact hb _ (by rw [c]; rfl)
    · rw [if_pos c]; exact hb _ (by rw [c]; rfl)
  · have hmul : (dn - 0) * (fMd (zF s) + 26) ≤ 500 * (fMd (zF s) + 26) := Nat.mul_le_mul_right _ (by omega)
    omega
theorem k_work (h : RK g s S) (hG : SG s rk) (h40 : N40 g) (hid : ∀ x ∈ zS s, x.1 ≠ id) (x : Int32) : ∃ co, co + phi (opWork s x id).2.2 ≤ 500 * (fMd (zF s) + 26) + 360 + phi s ∧ KO [IAE] co g S (n_X1_work S (some (g.2 1 0)) x) (opWork s x id) ∧ SG (opWork s x id).2.2 rk ∧ zF (opWork s x id).2.2 = zF s := by
  have hh := h
  have hG0 := hG
  have h1 := h.1
  simp only [n_X1_work, k_isIn, bn_s, opWork]
  cases hi : inI x 1 500 with
  | false =>
    refine ⟨2, ?_, ?_, hG, rfl⟩
    · simp only [if_true]; omega
    · simp only [if_true, b2i_f, k_check0, tbn_x]
      exact KO_x (j := 0) rfl hh 0 (by decide) (by decide)
  | true =>
    have h60 : ((60 : Int32) = 0) = False := by simp
    simp only [Bool.true_eq_false, if_false, b2i_t, k_check1, tbn_s, kn_8 h1, kn_6 h1, ob_s, h60]
    obtain ⟨nb, enb⟩ : ∃ nb, nb = begN (zN s) := ⟨_, rfl⟩
    have hT : wrkT s x = wrkL (mstN (zN (wN s nb)) x) 501 (wN s nb) 0 := by unfold wrkT; rw [← enb]
    have hGb : SG (wN s nb) rk := hG
    have fin : ∀ S1, RK g (wN s nb) S1 → KX [0, 1] [] 0 g S g S1 → ∃ co, co + phi (stor (endW (wrkT s x)) id) ≤ 500 * (fMd (zF s) + 26) + 360 + phi s ∧ KO [IAE] co g S (n_X1_work_b41 S1 (some (g.2 1 0)) x) (0, (wrkT s x).1, stor (endW (wrkT s x)) id) ∧ SG (stor (endW (wrkT s x)) id) rk ∧ zF (stor (endW (wrkT s x)) id) = zF s := by
      intro S1 r1 x1
      obtain ⟨S', g', co, z1, z2, z3, z4, z5, z6⟩ := k_work2 (s0 := s) r1 hGb h40 hid rfl hi
      rw [← hT] at z1 z3 z4 z5 z6
      refine ⟨0 + co, ?_, ?_, z5, z6⟩
      · rw [phi_end]
        have e1 : phi (wN s nb) = phi s := rfl
        have e2 : fMd (zF (wN s nb)) = fMd (zF s) := rfl
        rw [e1, e2] at z3
        omega
      · rw [z1]
        exact KO_s (KX_tr (KX_all x1 (Nat.le_refl _)) z2) z4
    by_cases c : (zN s).2.2.1 = (zN s).1 / 60
    · rw [if_pos c]
      have e : wN s nb = s := by
        have : nb = zN s := by
          rw [enb]
          unfold begN nwHo
          rw [if_pos c, ← c]
        rw [this]
      exact fin S (by rw [e]; exact hh) (KX_rf (by decide))
    · rw [if_neg c]
      obtain ⟨S1, e1⟩ : ∃ S1, S1 = sup S (g.2 1 0) (cO 0 [vR (some (g.2 20 0)), vR (some (g.2 21 0)), vR (some (g.2 22 0)), vR (some (g.2 23 0)), vR (some (g.2 24 0)), vR (some (g.2 25 0)), vI (zN s).1, vI (b2i (zN s).2.1), vI ((zN s).1 / 60), vI (zN s).2.2.2.1, vI (zN s).2.2.2.2.1, vI (zN s).2.2.2.2.2]) := ⟨_, rfl⟩
      have p1 : pI .int S (some (g.2 1 0)) 0 8 ((zN s).1 / 60) = some S1 := by rw [e1, pI_e h1.1, if_pos (by simp)]; rfl
      obtain ⟨r1, x1⟩ := RK_num hh (nwHo (zN s) ((zN s).1 / 60) (zN s).2.2.2.1) e1
      have ev : nb = nwHo (zN s) ((zN s).1 / 60) 0 := by
        rw [enb]
        unfold begN
        rw [if_neg c]
      obtain ⟨S2, e2⟩ : ∃ S2, S2 = sup S1 (g.2 1 0) (cO 0 [vR (some (g.2 20 0)), vR (some (g.2 21 0)), vR (some (g.2 22 0)), vR (some (g.2 23 0)), vR (some (g.2 24 0)), vR (some (g.2 25 0)), vI (zN s).1, vI (b2i (zN s).2.1), vI ((zN s).1 / 60), vI 0, vI (zN s).2.2.2.2.1, vI (zN s).2.2.2.2.2]) := ⟨_, rfl⟩
      have p2 : pI .int S1 (some (g.2 1 0)) 0 9 0 = some S2 := by
        rw [e2, pI_e r1.1.1, if_pos (by simp)]; rfl
      obtain ⟨r2, x2⟩ := RK_num r1 (nwHo (zN s) ((zN s).1 / 60) 0) e2
      rw [p1, ob_s, p2, ob_s]
      exact fin S2 (by rw [ev]; exact r2) (KX_n (KX_tr x1 x2) (by omega))
end
