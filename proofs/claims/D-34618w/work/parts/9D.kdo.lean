/-! the keeper's work: what comes next is done -/
/-- entries that a drop goes through -/
def drpC (s : Sg) (left : Int32) : Nat := match tellg (zR s) with
  | some _ => 0
  | none => match (zA s)[nxtA (zA s)]? with
    | some a => if left < nI (cosA s a) then 0 else if (abv (zF s) (zR s) a.1).isNone then cE (zE s) else 0
    | none => 0
/-- what a step holds to -/
def KD (s : Sg) (left : Int32) (g : GA) (S : St) (d : Option (Int32 × St)) : Prop := ∃ S' g' D c, d = some (nI D, S') ∧ (doN s left).1 = nI D ∧ D ≤ 21 ∧ KX TT UU c g S g' S' ∧ c + 2 * (zA s).length ≤ (if D = 0 then 3 else D * (fMd (zF s) + 26)) + 2 * (zA (doN s left).2).length + 64 * drpC s left ∧ RK g' (doN s left).2 S' ∧ N40 g'
section
variable {S S' S1 : St} {g g' : GA} {T U : List Nat} {n m b c x y t i j d : Nat} {f f' : Fl} {rs : List RtV} {en : En} {o : Nat → Option Nat} {ac : List AcV} {sg : List SgV} {w w' : Int64} {nm : Nm} {s : Sg} {rk : Nat → Nat} {k p : Nat} {e : EnV} {q l : List Nat} {r : RtV} {a : AcV} {left : Int32}
theorem hear_ge (s : Sg) (r : RtV) : (zA s).length ≤ (zA (hear s r)).length := by
  unfold hear
  split
  · exact Nat.le_refl _
  · split
    · exact Nat.le_refl _
    · exact adA_ge _ _ _
theorem cw1_ge (f : Fl) (en : En) (d : Nat) (s : List AcV × Int64 × List Nat) : ∀ k, s.1.length ≤ (cw1 f en d s k).1.length := by
  intro k
  induction k with
  | zero => exact Nat.le_refl _
  | succ k ih =>
    simp only [cw1]
    split
    · show s.1.length ≤ (if kno f en k = true then (cw1 f en d s k).1 else adA (cw1 f en d s k).1 k false).length
      split
      · exact ih
      · exact Nat.le_trans ih (adA_ge _ _ _)
    · exact ih
theorem crwl_ge (s : Sg) (r : RtV) : (zA s).length ≤ (zA (crwl s r)).length := by
  unfold crwl
  split
  · next d l h =>
    have h1 : (zA s).length ≤ (cwZ s r l d).1.length := by
      unfold cwZ
      split
      · exact cw1_ge _ _ _ (zA s, r.2.2.2.2, l) _
      · exact Nat.le_refl _
    unfold cwF
    split
    · exact Nat.le_trans h1 (cw2_ge _ _ _ _)
    · exact h1
  · exact Nat.le_refl _
/-- the act that is done leaves the list -/
theorem k_take_act (h : RKa g ac S) (hB : AB f ac) (hl : ac.length ≤ 60) (hj : ac[j]? = some a) : ∃ S', h_J4_remove_2 S (some (g.2 23 0)) (some (g.2 11 a.1)) = some (1, S') ∧ KX [0, 23] [] 0 g S g S' ∧ RKa g (ac.eraseIdx j) S' ∧ S'.1 (g.2 11 a.1) = some (acC g a) ∧ g.1 (g.2 11 a.1) = (11, a.1) ∧ ∀ z ∈ ac.eraseIdx j, z.1 ≠ a.1 := by
  obtain ⟨h1, h2, h3⟩ := h
  have hm := List.mem_of_getElem? hj
  have hjl := (List.getElem?_eq_some_iff.mp hj).1
  have hfi : (ac.map fun a => some (g.2 11 a.1)).findIdx (fun y => y == some (g.2 11 a.1)) = j := by
    refine (find_at (r := some (g.2 11 a.1)) (by rw [List.getElem?_map, hj]; rfl) (by simp) (fun i q hi hq => ?_)).2
    rw [List.getElem?_map] at hq
    obtain ⟨z, hz, rfl⟩ := Option.map_eq_some_iff.mp hq
    have hzm := List.mem_of_getElem? hz
    have ne : g.2 11 z.1 ≠ g.2 11 a.1 := fun e => by
      have q1 := (h3 z hzm).2
      rw [e, (h3 a hm).2] at q1
      have := hB.inj hz hj (congrArg (·.2) q1).symm
      omega
    simpa using ne
  obtain ⟨S1, a1, a2, a3⟩ := ll_removeO h1 (x := some (g.2 11 a.1)) (by rw [List.length_map]; omega) (grc_o (h3 a hm).1) hfi (by rw [List.length_map]; exact hjl)
  have x1 : KX [0, 23] [] 0 g S g S1 := KX_ch1 a3 h2
  refine ⟨S1, a1, x1, ⟨by rw [map_erI]; exact a2, h2, fun z hz => ?_⟩, ?_, (h3 a hm).2, fun z hz e => ?_⟩
  · obtain ⟨u1, u2⟩ := h3 z (List.mem_of_mem_eraseIdx hz)
    exact ⟨(x1.at1 u2 (by decide)).trans u1, u2⟩
  · exact (x1.at1 (h3 a hm).2 (by decide)).trans (h3 a hm).1
  · obtain ⟨i, hi⟩ := List.mem_iff_getElem?.mp hz
    rw [List.getElem?_eraseIdx] at hi
    split at hi
    · next hij => have := hB.inj hi hj e; omega
    · next hij => have := hB.inj hi hj e; omega
theorem k_doN (h : RK g s S) (hI : IW s rk) (hU : LU (zS s)) (hsm : ∀ k, k < fMd (zF s) → ∀ m ∈ fMk (zF s) k, Sm m) (h40 : N40 g) (left : Int32) : KD s left g S (n_X1_doNext S (some (g.2 1 0)) left) := by
  have H := h
  have hI0 := hI
  obtain ⟨A, h6, hT, hN, hB, hE, hF, hS, hF1, hE0, hW⟩ := hI
  obtain ⟨h1, h2, h3, h4, h5, h6', h7, h8⟩ := h
  have hlen := hB.len h6
  obtain ⟨S1, q1, q2⟩ := k_telling h1 h3 h8 hT
  have H1 := H.kx0 q2
  simp only [n_X1_doNext, h1.cl, gd_t, q1, bn_s]
  have one_le : (1 ≤ left) = ¬ left < 1 := propext Int32.not_lt.symm
  cases htl : tellg (zR s) with
  | some r =>
    have hr := List.mem_of_find?_eq_some htl
    have hp := List.find?_some htl
    have hpr : r.2.2.1 = true ∨ r.2.1 ≠ [] := by
      simp only [Bool.or_eq_true, Bool.not_eq_true', List.isEmpty_eq_false_iff] at hp
      exact hp
    have ed : drpC s left = 0 := by unfold drpC; rw [htl]
    have edo : doN s left = if left < 1 then (0, s) else (1, hear s r) := by unfold doN; rw [htl]
    simp only [Option.map_some, reduceCtorEq, if_false, n_X1_doNext_b17, n_X1_doNext_b33, n_X1_doNext_b34, n_X1_doNext_b57, n_X1_doNext_b62, if_true, i10, one_le]
    by_cases el : left < 1
    · rw [if_neg (fun z => z el), rt_i]
      rw [if_pos el] at edo
      exact ⟨S1, g, 0, 1, by rw [nI_0]; rfl, by rw [edo, nI_0], by omega, KX_all q2 (Nat.le_refl _), by rw [edo]; simp; omega, by rw [edo]; exact H1, h40⟩
    · rw [if_pos el]
      rw [if_neg el] at edo
      obtain ⟨S2, g2, r1, r2, r3⟩ := k_hear H1 hI0 hr hpr
      simp only [H1.1.cl, gd_t, r1, bn_s, rt_i, id]
      have := hear_ge s r
      refine ⟨S2, un40 g2, 1, _, by rw [← li_1], by rw [edo, ← li_1], by omega, KX_un h40 (KX_tr (KX_all q2 (Nat.le_refl _)) r2), ?_, by rw [edo]; exact RK_un r3, un_N g2⟩
      rw [edo]
      simp only
      rw [if_neg (by omega)]
      omega
  | none =>
    obtain ⟨S2, p1, p2⟩ := k_next H1.1 H1.2.2.2.2.1 H1.2.2.2.2.2.2.2.2.2.2 hlen
    have H2 := H1.kx0 p2
    simp only [Option.map_none, if_true, H1.1.cl, gd_t, p1, bn_s]
    have hnx := nxtA_get (zA s)
    cases hfa : (zA s).find? (fun a => !a.2.2) with
    | some a =>
      rw [hfa] at hnx
      have hm := List.mem_of_getElem? hnx
      have hk := hB.2 a hm
      obtain ⟨S3, c1, c2⟩ := k_cost H2 hI0 hm
      have H3 := H2.kx0 c2
      have hcl : cosA s a ≤ 21 := by
        unfold cosA
        have := (hF a.1 hk).2
        split <;> omega
      have hc1 : 1 ≤ cosA s a := by unfold cosA; split <;> omega
      have ed : drpC s left = if left < nI (cosA s a) then 0 else if (abv (zF s) (zR s) a.1).isNone then cE (zE s) else 0 := by unfold drpC; rw [htl, hnx]
      have edo : doN s left = if left < nI (cosA s a) then (0, s) else (nI (cosA s a), perf (wA s ((zA s).eraseIdx (nxtA (zA s)))) a) := by unfold doN; rw [htl, hnx]
      have e0 : (nI (cosA s a) = 0) = False := by rw [li_0, nI_eqE (by omega) (by decide)]; exact eq_false (by omega)
      have ele : (nI (cosA s a) ≤ left) = ¬ left < nI (cosA s a) := propext Int32.not_lt.symm
      simp only [Option.map_some, reduceCtorEq, if_false, n_X1_doNext_b17, n_X1_doNext_b33, n_X1_doNext_b34, n_X1_doNext_b57, n_X1_doNext_b62, if_true, H2.1.cl, gd_t, c1, bn_s, e0, ele]
      by_cases el : left < nI (cosA s a)
      · rw [if_neg (fun z => z el), rt_i]
        rw [if_pos el] at edo
        exact ⟨S3, g, 0, 3, by rw [nI_0]; rfl, by rw [edo, nI_0], by omega, KX_all (KX_tr (KX_tr q2 p2) c2) (by omega), by rw [edo]; simp <;> omega, by rw [edo]; exact H3, h40⟩
      · rw [if_pos el]
        rw [if_neg el] at edo ed
        obtain ⟨S4, t1, t2, t3, t4, t5, t6⟩ := k_take_act H3.2.2.2.2.1 hB hlen hnx
        obtain ⟨n3, f3, r3, e3, a3, s3, w3, k3⟩ := H3
        have H4 : RK g (wA s ((zA s).eraseIdx (nxtA (zA s)))) S4 := ⟨n3.kx t2, f3.kx t2, r3.kx t2, e3.kx t2, t3, s3.kx t2, w3.kx t2, k3.kx t2 (FR_sm k3.2.2.2 t2.le)⟩
        have hI1 : IW (wA s ((zA s).eraseIdx (nxtA (zA s)))) rk := IW_acs hI0 (eraseIdx_AB hB _)
        obtain ⟨S5, g5, u1, u2, u3, u4⟩ := k_perf H4 hI1 hU hsm h40 t4 t5 t6 hk
        simp only [kn_3 n3, ob_s, a3.1.cl, gd_t, t1, bn_s, (n3.kx t2).cl, u1, rt_i, id]
        have hel : ((zA s).eraseIdx (nxtA (zA s))).length + 1 = (zA s).length := by
          have := (List.getElem?_eq_some_iff.mp hnx).1
          rw [List.length_eraseIdx_of_lt this]; omega
        have hpg := perf_ge (wA s ((zA s).eraseIdx (nxtA (zA s)))) a
        refine ⟨S5, g5, cosA s a, _, rfl, by rw [edo], hcl, KX_tr (KX_tr (KX_all (KX_tr (KX_tr q2 p2) c2) (Nat.le_refl _)) (KX_all t2 (Nat.le_refl _))) u2, ?_, by rw [edo]; exact u4, u3⟩
        rw [edo, ed, if_neg (show ¬ cosA s a = 0 by omega)]
        have hmul : cosA s a * (fMd (zF s) + 26) = cosA s a * (fMd (zF s) + 13) + cosA s a * 13 := by rw [← Nat.mul_add]
        have hcs : cosA (wA s ((zA s).eraseIdx (nxtA (zA s)))) a = cosA s a := rfl
        have hz : zA (wA s ((zA s).eraseIdx (nxtA (zA s)))) = (zA s).eraseIdx (nxtA (zA s)) := rfl
        rw [hcs, hz]
        rw [hz] at hpg
        show 1 + 1 + 1 + 0 + (cosA s a * (fMd (zF s) + 13) + 2 * ((zA (perf (wA s ((zA s).eraseIdx (nxtA (zA s)))) a)).length - ((zA s).eraseIdx (nxtA (zA s))).length) + 64 * (if (abv (zF s) (zR s) a.1).isNone = true then cE (zE s) else 0)) + 2 * (zA s).length ≤ cosA s a * (fMd (zF s) + 26) + 2 * (zA (perf (wA s ((zA s).eraseIdx (nxtA (zA s)))) a)).length + 64 * (if (abv (zF s) (zR s) a.1).isNone = true then cE (zE s) else 0)
        omega
    | none =>
      rw [hfa] at hnx
      have ed : drpC s left = 0 := by unfold drpC; rw [htl, hnx]
      obtain ⟨S3, c1, c2⟩ := k_crawling H2.1 H2.2.2.1 H2.2.2.2.2.2.2.2 hT
      have H3 := H2.kx0 c2
      simp only [Option.map_none, if_true, n_X1_doNext_b17, H2.1.cl, gd_t, c1, bn_s]
      cases hcr : crwlg (zR s) with
      | some r =>
        obtain ⟨hm, d, l, hcl⟩ := crwlg_some hT hcr
        have edo : doN s left = if left < 1 then (0, s) else (1, crwl s r) := by unfold doN; rw [htl, hnx, hcr]
        simp only [Option.map_some, reduceCtorEq, if_false, n_X1_doNext_b34, n_X1_doNext_b57, n_X1_doNext_b62, if_true, i10, one_le]
        by_cases el : left < 1
        · rw [if_neg (fun z => z el), rt_i]
          rw [if_pos el] at edo
          exact ⟨S3, g, 0, 3, by rw [nI_0]; rfl, by rw [edo, nI_0], by omega, KX_all (KX_tr (KX_tr q2 p2) c2) (by omega), by rw [edo]; simp <;> omega, by rw [edo]; exact H3, h40⟩
        · rw [if_pos el]
          rw [if_neg el] at edo
          obtain ⟨S4, g4, r1, r2, r3⟩ := k_crwl H3 hI0 hm hcl
          simp only [H3.1.cl, gd_t, r1, bn_s, rt_i, id]
          have := crwl_ge s r
          refine ⟨S4, un40 g4, 1, _, by rw [← li_1], by rw [edo, ← li_1], by omega, KX_un h40 (KX_tr (KX_all (KX_tr (KX_tr q2 p2) c2) (Nat.le_refl _)) r2), ?_, by rw [edo]; exact RK_un r3, un_N g4⟩
          rw [edo]
          simp only
          rw [if_neg (by omega)]
          omega
      | none =>
        have edo : doN s left = (0, s) := by unfold doN; rw [htl, hnx, hcr]
        simp only [Option.map_none, if_true, n_X1_doNext_b34, n_X1_doNext_b62, rt_i]
        exact ⟨S3, g, 0, 3, by rw [nI_0]; rfl, by rw [edo, nI_0], by omega, KX_all (KX_tr (KX_tr q2 p2) c2) (by omega), by rw [edo]; simp <;> omega, by rw [edo]; exact H3, h40⟩
end
