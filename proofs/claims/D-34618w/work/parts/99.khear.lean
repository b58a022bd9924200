/-! the keeper's work: hear -/
section
variable {S S' S1 : St} {g g' : GA} {T U : List Nat} {n m a b c x y t i j d : Nat} {f f' : Fl} {rs : List RtV} {en : En} {o : Nat → Option Nat} {ac : List AcV} {sg : List SgV} {w : Int64} {nm : Nm} {s : Sg} {rk : Nat → Nat} {k p : Nat} {e : EnV}
theorem updR_updR (rs : List RtV) (a : Nat) (g1 g2 : RtV → RtV) (h : ∀ r, (g1 r).1 = r.1) : updR (updR rs a g1) a g2 = updR rs a fun r => g2 (g1 r) := by
  unfold updR
  rw [List.map_map]
  refine List.map_congr_left fun r _ => ?_
  simp only [Function.comp]
  by_cases e : r.1 = a
  · rw [if_pos e, if_pos e, if_pos (by rw [h]; exact e)]
  · rw [if_neg e, if_neg e, if_neg e]
theorem updR_mem {r : RtV} (hr : r ∈ rs) (gf : RtV → RtV) : gf r ∈ updR rs r.1 gf := List.mem_map.mpr ⟨r, hr, by rw [if_pos rfl]⟩
/-- the root's own cell changes -/
theorem RKr_cell (h : RKr g rs S) (hN : (rs.map (·.1)).Nodup) {r : RtV} (hr : r ∈ rs) (gf : RtV → RtV) (hgf : (gf r).1 = r.1) (h1 : (gf r).2.1 = r.2.1) (h2 : (gf r).2.2.2.2 = r.2.2.2.2) (h3 : (gf r).2.2.2.1 = none ∨ (gf r).2.2.2.1 = r.2.2.2.1) : RKr g (updR rs r.1 gf) (sup S (g.2 4 r.1) (rtC g (gf r))) := by
  obtain ⟨k1, ⟨ts, t1, t2, t3⟩, k5, k6, k7, k8, k9⟩ := h.2.2 r hr
  have ne : ∀ {z u v}, g.1 z = (u, v) → u ≠ 4 → z ≠ g.2 4 r.1 := fun {z u v} hz hu e => by
    rw [e, k7] at hz; exact hu (congrArg (·.1) hz).symm
  refine RKr_upd h hN hr gf hgf (fun a h0 ha hb => sup_ne _ _ (fun e => ?_)) (fun _ _ => rfl) (fun _ _ => rfl) (fun _ _ => rfl) rfl ?_
  · rw [e, k7] at ha
    rcases ha with z | z
    · exact z (show (4 : Nat) ∈ [4, 5, 6, 7] by decide)
    · exact z rfl
  · refine ⟨by rw [hgf]; exact sup_at _ _ _, ⟨ts, by rw [hgf]; exact t1.fr (sup_ne _ _ (ne k8 (by decide))), by rw [h1]; exact t2, fun i t p ht hp => ?_⟩, fun l hl => ?_, by rw [hgf, h2, sup_ne _ _ (ne k9 (by decide))]; exact k6, by rw [hgf]; exact k7, by rw [hgf]; exact k8, by rw [hgf]; exact k9⟩
    · rw [h1] at hp
      obtain ⟨u1, u2⟩ := t3 i t p ht hp
      refine ⟨?_, u2⟩
      rw [sup_ne _ _ (ne (show g.1 t = (8, (g.1 t).2) by rw [← u2]) (by decide))]
      exact u1
    · rcases h3 with z | z
      · rw [z] at hl; cases hl
      · rw [z] at hl
        obtain ⟨u1, u2⟩ := k5 l hl
        rw [hgf]
        exact ⟨u1.fr (sup_ne _ _ (ne u2 (by decide))), u2⟩
theorem k_hear (h : RK g s S) (hI : IW s rk) {r : RtV} (hr : r ∈ zR s) (ht : r.2.2.1 = true ∨ r.2.1 ≠ []) : ∃ S' g', n_X1_hear S (some (g.2 1 0)) (some (g.2 4 r.1)) = some ((), S') ∧ KX TT UU (5 + 2 * ((zA (hear s r)).length - (zA s).length)) g S g' S' ∧ RK g' (hear s r) S' := by
  obtain ⟨A, h6, hT, hN, hB, hE, hF, hS, hF1, hE0, hW⟩ := hI
  obtain ⟨h1, h2, h3, h4, h5, h6', h7, h8⟩ := h
  obtain ⟨k1, ⟨ts, t1, t2, t3⟩, k5, k6, k7, k8, k9⟩ := h3.2.2 r hr
  have hrb := hT.2 r hr
  simp only [n_X1_hear, rt_2 h3 hr, ob_s, b2i_0]
  by_cases b1 : r.2.2.1 = true
  · have eh : hear s r = wR s (updR (zR s) r.1 fun r => begR (r.1, r.2.1, false, r.2.2.2)) := by unfold hear; rw [if_pos b1]
    rw [if_neg (by rw [b1]; decide), eh]
    obtain ⟨S1, e1⟩ : ∃ S1, S1 = sup S (g.2 4 r.1) (rtC g (r.1, r.2.1, false, r.2.2.2)) := ⟨_, rfl⟩
    have p1 : pI .boolean S (some (g.2 4 r.1)) 4 2 0 = some S1 := by
      simp only [pI, show gfit .boolean 0 = true by decide, if_true, pF_e (show S.1 (g.2 4 r.1) = some (cO 4 [vR (some (g.2 2 r.1)), vR (some (g.2 5 r.1)), vI (b2i r.2.2.1), vR (r.2.2.2.1.map fun _ => g.2 6 r.1), vR (some (g.2 7 r.1))]) from k1)]
      rw [if_pos (by simp), e1]
      rfl
    have r1 : RKr g (updR (zR s) r.1 fun r => (r.1, r.2.1, false, r.2.2.2)) S1 := by
      rw [e1]
      exact RKr_cell h3 hN.1 hr (fun r => (r.1, r.2.1, false, r.2.2.2)) rfl rfl rfl (Or.inr rfl)
    have x1 : KX [0, 4, 6, 7] [6] 0 g S g S1 := by rw [e1]; exact KX_ch1 (Ch_sup _) k7
    have f1 := h2.kx x1
    have hm1 : (((r.1, r.2.1, false, r.2.2.2) : RtV)) ∈ updR (zR s) r.1 fun r => (r.1, r.2.1, false, r.2.2.2) := updR_mem hr fun r => (r.1, r.2.1, false, r.2.2.2)
    have hN1 : ((updR (zR s) r.1 fun r => (r.1, r.2.1, false, r.2.2.2)).map (·.1)).Nodup := by
      have e : (updR (zR s) r.1 fun r => (r.1, r.2.1, false, r.2.2.2)).map (·.1) = (zR s).map (·.1) := updR_map _ _ fun _ => rfl
      rw [e]; exact hN.1
    obtain ⟨S2, g2, q1, q2, q3, q4⟩ := k_begin f1 r1 (FR_sm h8.2.2.2 x1.le) hN1 hm1 hrb.1
    have q1 : n_X6_begin S1 (some (g.2 4 r.1)) = some ((), S2) := q1
    have cl : grc S1 (some (g.2 4 r.1)) 4 = true := by rw [e1]; exact grc_o (sup_at _ _ _)
    have xx := KX_tr x1 q2
    have q3 : RKr g2 (updR (updR (zR s) r.1 fun r => (r.1, r.2.1, false, r.2.2.2)) r.1 begR) S2 := q3
    rw [updR_updR (zR s) r.1 (fun r => (r.1, r.2.1, false, r.2.2.2)) begR (fun _ => rfl)] at q3
    simp only [p1, ob_s, cl, gd_t, q1, bn_s]
    exact ⟨S2, g2, rfl, KX_all xx (by omega), h1.kx xx, h2.kx xx, q3, h4.kx xx, h5.kx xx, h6'.kx xx, h7.kx xx, h8.kx xx q4⟩
  · have b0 : r.2.2.1 = false := by simpa using b1
    obtain ⟨pr, q, hq⟩ : ∃ pr q, r.2.1 = pr :: q := by
      rcases ht with z | z
      · exact absurd z b1
      · cases hq : r.2.1 with
        | nil => exact absurd hq z
        | cons pr q => exact ⟨pr, q, rfl⟩
    have eh : hear s r = wA (wR s (updR (zR s) r.1 fun r => (r.1, q, r.2.2))) (adA (zA s) pr.2 (pr.1 == 2)) := by
      unfold hear
      rw [if_neg b1]
      simp only [hq]
    rw [if_pos b0, eh]
    obtain ⟨t, ts, rfl⟩ : ∃ t ts', ts = t :: ts' := by
      cases ts with
      | nil => rw [hq] at t2; simp at t2
      | cons t ts => exact ⟨t, ts, rfl⟩
    obtain ⟨u1, u2⟩ := t3 0 t pr (by simp) (by rw [hq]; rfl)
    have hp := hrb.2.2.1 pr (by rw [hq]; exact List.mem_cons_self)
    obtain ⟨S1, a1, a2, a3⟩ := ll_removeFirst (x := some t) (xs := ts.map some) t1
    have ne : ∀ {z u v}, g.1 z = (u, v) → u ≠ 5 → z ≠ g.2 5 r.1 := fun {z u v} hz hu e => by
      rw [e, k8] at hz; exact hu (congrArg (·.1) hz).symm
    have c1 : S1.1 t = some (toldC g S pr) := by rw [a3.1 t (ne (show g.1 t = (8, (g.1 t).2) by rw [← u2]) (by decide))]; exact u1
    have cs1 : S1.2.2.2 = S.2.2.2 := a3.2.2.2.2
    have x1 : KX [0, 5] [] 0 g S g S1 := KX_ch1 a3 k8
    have r1 : RKr g (updR (zR s) r.1 fun r => (r.1, q, r.2.2)) S1 := by
      refine RKr_upd h3 hN.1 hr (fun r => (r.1, q, r.2.2)) rfl (fun a h0 ha hb => a3.1 a (fun e => ?_)) (fun _ _ => rfl) (fun _ _ => rfl) (fun _ _ => rfl) cs1 ?_
      · rw [e, k8] at ha
        rcases ha with z | z
        · exact z (show (5 : Nat) ∈ [4, 5, 6, 7] by decide)
        · exact z rfl
      · refine ⟨by rw [a3.1 _ (ne k7 (by decide))]; exact k1, ⟨ts, a2, by rw [hq] at t2; simpa using t2, fun i t' p' ht' hp' => ?_⟩, fun l hl => ?_, by rw [a3.1 _ (ne k9 (by decide))]; exact k6, k7, k8, k9⟩
        · have hp'' : q[i]? = some p' := hp'
          obtain ⟨v1, v2⟩ := t3 (i + 1) t' p' (by simpa using ht') (by rw [hq]; simpa using hp'')
          refine ⟨?_, v2⟩
          rw [a3.1 t' (ne (show g.1 t' = (8, (g.1 t').2) by rw [← v2]) (by decide)), v1]
          simp only [toldC, cs1]
        · obtain ⟨v1, v2⟩ := k5 l hl
          exact ⟨v1.fr (a3.1 _ (ne v2 (by decide))), v2⟩
    have n1 := h1.kx x1
    have f1 := h2.kx x1
    have F1 : FR g S1 := FR_sm h8.2.2.2 x1.le
    have z0 : gR S1 (some t) 2 0 = some (some (S.2.2.2 (pr.1 + 1))) := by rw [gR_e c1]; rfl
    have z1 : gR S1 (some t) 2 1 = some (some (g.2 2 pr.2)) := by rw [gR_e c1]; rfl
    obtain ⟨S2, g2, q1, q2, q3, q4⟩ := k_add n1 f1 (h5.kx x1) F1 hB h6 hp.2 (pr.1 == 2)
    have e3 : (some (S.2.2.2 (pr.1 + 1)) = some (S1.2.2.2 3)) = (pr.1 = 2) := by
      rw [cs1, Option.some.injEq]
      obtain ⟨-, d1, d2, -⟩ := h8
      have := hp.1
      refine propext ⟨fun e => ?_, fun e => by rw [e]⟩
      rcases Nat.lt_or_ge pr.1 1 with z | z
      · have : pr.1 = 0 := by omega
        rw [this] at e; exact absurd e d1
      · rcases Nat.lt_or_ge pr.1 2 with z2 | z2
        · have : pr.1 = 1 := by omega
          rw [this] at e; exact absurd e d2
        · omega
    have xx : KX [0, 5, 11, 23] [11] (1 + 2 * ((adA (zA s) pr.2 (pr.1 == 2)).length - (zA s).length)) g S g2 S2 := KX_n (KX_tr (KX_up x1 (by decide) (by decide) (Nat.le_refl _)) (KX_up q2 (by decide) (by decide) (Nat.le_refl _))) (by omega)
    have t1' : isLL S (g.2 5 r.1) ((t :: ts).map some) := t1
    refine ⟨S2, g2, ?_, KX_all xx (by show _ ≤ 5 + 2 * ((adA (zA s) pr.2 (pr.1 == 2)).length - (zA s).length); omega), h1.kx xx, h2.kx xx, r1.kx q2, h4.kx xx, q3, h6'.kx xx, h7.kx xx, h8.kx xx q4⟩
    simp only [rt_1 h3 hr, ob_s, t1'.cl, gd_t, a1, bn_s, gcst_g (grc_o c1), z1, z0, e3, n_X1_hear_b50, n1.cl]
    by_cases e2 : pr.1 = 2
    · rw [if_pos e2]
      rw [show (pr.1 == 2) = true by simp [e2]] at q1
      rw [show n_X1_add S1 (some (g.2 1 0)) (some (g.2 2 pr.2)) 1 = some ((), S2) from q1, bn_s]
    · rw [if_neg e2]
      rw [show (pr.1 == 2) = false by simp [e2]] at q1
      rw [show n_X1_add S1 (some (g.2 1 0)) (some (g.2 2 pr.2)) 0 = some ((), S2) from q1, bn_s]
end
