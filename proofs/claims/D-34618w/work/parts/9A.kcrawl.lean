/-! the keeper's work: a crawl; its root -/
def upv (q : List Nat) (w : Int64) : RtV → RtV := fun r => (r.1, r.2.1, r.2.2.1, some q, w)
section
variable {S S' S1 : St} {g g' : GA} {T U : List Nat} {n m a b c x y t i j d : Nat} {f f' : Fl} {rs : List RtV} {en : En} {o : Nat → Option Nat} {ac : List AcV} {sg : List SgV} {w w' : Int64} {nm : Nm} {s : Sg} {rk : Nat → Nat} {k p : Nat} {e : EnV} {q l : List Nat} {r : RtV}
theorem RKr_ch {q0 t0 : Nat} (h : RKr g rs S) (hN : (rs.map (·.1)).Nodup) (hr : r ∈ rs) (gf : RtV → RtV) (hgf : (gf r).1 = r.1) (ho : g.1 q0 = (t0, r.1)) (ht : t0 ∈ [4, 5, 6, 7]) (hc : Ch q0 c S S') (hr' : RKt g S' (gf r)) : RKr g (updR rs r.1 gf) S' := by
  refine RKr_upd h hN hr gf hgf (fun a h0 ha hb => hc.1 a (fun e => ?_)) (fun _ _ => rfl) (fun _ _ => rfl) (fun _ _ => rfl) hc.2.2.2.2 hr'
  rw [e, ho] at ha
  rcases ha with z | z
  · exact z ht
  · exact z rfl
theorem upv_map (q : List Nat) (w : Int64) (a : Nat) : (updR rs a (upv q w)).map (·.1) = rs.map (·.1) := updR_map _ _ fun _ => rfl
theorem upv_mem (hr : r ∈ rs) (q : List Nat) (w : Int64) : upv q w r ∈ updR rs r.1 (upv q w) := updR_mem hr (upv q w)
theorem upv_upv (q q' : List Nat) (w w' : Int64) (a : Nat) : updR (updR rs a (upv q w)) a (upv q' w') = updR rs a (upv q' w') := updR_updR rs a (upv q w) (upv q' w') fun _ => rfl
/-- what it has met changes -/
theorem upv_met (h : RKr g (updR rs r.1 (upv q w)) S) (hN : (rs.map (·.1)).Nodup) (hr : r ∈ rs) (e : S' = sup S (g.2 7 r.1) (cBS w')) : RKr g (updR rs r.1 (upv q w')) S' := by
  obtain ⟨k1, ⟨ts, t1, t2, t3⟩, k5, k6, k7, k8, k9⟩ := h.2.2 _ (upv_mem hr q w)
  have k9 : g.1 (g.2 7 r.1) = (7, r.1) := k9
  have ne : ∀ {z u v}, g.1 z = (u, v) → u ≠ 7 → z ≠ g.2 7 r.1 := fun {z u v} hz hu e => by
    rw [e, k9] at hz; exact hu (congrArg (·.1) hz).symm
  have hN' : ((updR rs r.1 (upv q w)).map (·.1)).Nodup := by rw [upv_map]; exact hN
  have hc : Ch (g.2 7 r.1) 0 S S' := by rw [e]; exact Ch_sup _
  have key := RKr_ch (r := upv q w r) (t0 := 7) h hN' (upv_mem hr q w) (upv q w') rfl k9 (by decide) hc ?_
  · have key : RKr g (updR (updR rs r.1 (upv q w)) r.1 (upv q w')) S' := key
    rw [upv_upv] at key; exact key
  · refine ⟨(hc.1 _ (ne k7 (by decide))).trans k1, ⟨ts, t1.fr (hc.1 _ (ne k8 (by decide))), t2, fun i t p ht hp => ?_⟩, fun l hl => ?_, by rw [e]; exact sup_at _ _ _, k7, k8, k9⟩
    · obtain ⟨u1, u2⟩ := t3 i t p ht hp
      refine ⟨?_, u2⟩
      rw [hc.1 _ (ne (show g.1 t = (8, (g.1 t).2) by rw [← u2]) (by decide)), u1]
      simp only [toldC, hc.2.2.2.2]
    · obtain ⟨u1, u2⟩ := k5 l hl
      exact ⟨u1.fr (hc.1 _ (ne u2 (by decide))), u2⟩
/-- its queue of folders changes -/
theorem upv_dq {q' : List Nat} (h : RKr g (updR rs r.1 (upv q w)) S) (hN : (rs.map (·.1)).Nodup) (hr : r ∈ rs) (hc : Ch (g.2 6 r.1) c S S') (hd : isDQ S' (g.2 6 r.1) (q'.map fun k => some (g.2 2 k))) : RKr g (updR rs r.1 (upv q' w)) S' := by
  obtain ⟨k1, ⟨ts, t1, t2, t3⟩, k5, k6, k7, k8, k9⟩ := h.2.2 _ (upv_mem hr q w)
  have k56 : g.1 (g.2 6 r.1) = (6, r.1) := (k5 q rfl).2
  have ne : ∀ {z u v}, g.1 z = (u, v) → u ≠ 6 → z ≠ g.2 6 r.1 := fun {z u v} hz hu e => by
    rw [e, k56] at hz; exact hu (congrArg (·.1) hz).symm
  have hN' : ((updR rs r.1 (upv q w)).map (·.1)).Nodup := by rw [upv_map]; exact hN
  have key := RKr_ch (r := upv q w r) (t0 := 6) h hN' (upv_mem hr q w) (upv q' w) rfl k56 (by decide) hc ?_
  · have key : RKr g (updR (updR rs r.1 (upv q w)) r.1 (upv q' w)) S' := key
    rw [upv_upv] at key; exact key
  · refine ⟨(hc.1 _ (ne k7 (by decide))).trans k1, ⟨ts, t1.fr (hc.1 _ (ne k8 (by decide))), t2, fun i t p ht hp => ?_⟩, fun l hl => ?_, (hc.1 _ (ne k9 (by decide))).trans k6, k7, k8, k9⟩
    · obtain ⟨u1, u2⟩ := t3 i t p ht hp
      refine ⟨?_, u2⟩
      rw [hc.1 _ (ne (show g.1 t = (8, (g.1 t).2) by rw [← u2]) (by decide)), u1]
      simp only [toldC, hc.2.2.2.2]
    · have hl : some q' = some l := hl
      cases hl
      exact ⟨hd, k56⟩
theorem cw2_ge (en : En) (w : Int64) (ac : List AcV) : ∀ k, ac.length ≤ (cw2 en w ac k).length := by
  intro k
  induction k with
  | zero => exact Nat.le_refl _
  | succ k ih =>
    simp only [cw2]
    split
    · exact Nat.le_trans ih (adA_ge _ _ _)
    · exact ih
/-- known entries that were not met -/
theorem k_unmet {g0 : GA} {bs x1 : Nat} {X : Option Nat} (hn : RKn g nm S) (hf : RKf g f S) (he : RKe g en o S) (h : RKa g ac S) (hF : FR g S) (hB : AB f ac) (hE : ES f en) (h6 : fMd f ≤ 60) (hX : X = some x1) (hb : ∀ S', (∀ a, (g.1 a).1 ∉ [0, 11, 23] → S'.1 a = S.1 a) → gR S' X 4 4 = some (some bs)) (hw : S.1 bs = some (cBS w)) (hwo : g.1 bs = (7, t)) : ∃ S' g', n_X1_crawl_b196 FU S (some (g.2 1 0)) X 0 = some ((), S') ∧ KX [0, 11, 23] [11] (cnB (fun k => (en k).isSome && !tb w k) 60 + 2 * ((cw2 en w ac 60).length - ac.length)) g S g' S' ∧ RKa g' (cw2 en w ac 60) S' ∧ FR g' S' := by
  have key := lp_ex (fun m k (c : St × GA) => n_X1_crawl_b196 m c.1 (some (g.2 1 0)) X (nI k)) (fun k c => KX [0, 11, 23] [11] (cnB (fun k => (en k).isSome && !tb w k) k + 2 * ((cw2 en w ac k).length - ac.length)) g S c.2 c.1 ∧ RKa c.2 (cw2 en w ac k) c.1 ∧ FR c.2 c.1) (fun b => ∃ S' g', b = ((), S') ∧ KX [0, 11, 23] [11] (cnB (fun k => (en k).isSome && !tb w k) 60 + 2 * ((cw2 en w ac 60).length - ac.length)) g S g' S' ∧ RKa g' (cw2 en w ac 60) S' ∧ FR g' S') 60 ?_ ?_ FU 0 (S, g) (by omega) (by simp only [FU]; omega) ⟨KX_n (KX_rf (by decide)) (Nat.zero_le _), h, hF⟩
  · obtain ⟨b, k1, S', g', rfl, k2⟩ := key
    rw [nI_0] at k1
    exact ⟨S', g', k1, k2⟩
  · intro m k ⟨S1, g1⟩ hk ⟨x1, ra1, F1⟩
    refine Or.inl ?_
    have n1 := hn.kx x1
    have f1 := hf.kx x1
    have e1 := he.kx x1
    have a10 : g1.2 1 0 = g.2 1 0 := by rw [x1.ad (by decide)]
    have q2 := kn_2 n1
    have qcl := n1.cl
    rw [a10] at q2 qcl
    have hAB := cw2_AB (x := w) hB hE k
    have hbb := hb S1 (fun a ha => x1.at ha)
    have hw1 : S1.1 bs = some (cBS w) := (x1.at1 hwo (by decide)).trans hw
    simp only [n_X1_crawl_b196, n_X1_crawl_b236, li_60, nI_leE (show 60 < 2 ^ 31 by decide) (show k < 2 ^ 31 by omega), q2, ob_s, en_get e1 hk, nI_1, hbb, isBS_cl hw1, gd_t, bs_get hw1 (show k < 64 by omega), bn_s, b2i_0]
    rw [if_neg (by omega)]
    cases hek : en k with
    | none =>
      refine ⟨(S1, g1), ⟨?_, ?_, F1⟩, by simp⟩
      · simpa [cnB, cw2, hek] using x1
      · simpa [cw2, hek] using ra1
    | some ev =>
      simp only [Option.isSome_some, if_true, reduceCtorEq, if_false]
      rcases Bool.eq_false_or_eq_true (tb w k) with bt | bt
      · refine ⟨(S1, g1), ⟨?_, ?_, F1⟩, by rw [if_neg (by rw [bt]; decide)]⟩
        · simpa [cnB, cw2, hek, bt] using x1
        · simpa [cw2, hek, bt] using ra1
      · obtain ⟨hkm, -⟩ := hE k ev hek
        obtain ⟨S2, g2, b1, b2, b3, b4⟩ := k_add n1 f1 ra1 F1 hAB h6 hkm false
        rw [a10] at b1
        have e0 := en_0 e1 hek
        refine ⟨(S2, g2), ⟨?_, ?_, b4⟩, ?_⟩
        · have := cw2_ge en w ac k
          have := adA_ge (cw2 en w ac k) k false
          refine KX_n (KX_tr x1 b2) ?_
          simp only [cnB, cw2, hek, bt, Option.isSome_some, Bool.not_false, Bool.and_self, if_true]
          omega
        · simpa [cw2, hek, bt] using b3
        · rw [if_pos bt]
          simp only [e0, ob_s, qcl, gd_t]
          rw [show n_X1_add S1 (some (g.2 1 0)) (some (g1.2 2 k)) 0 = some ((), S2) from b1, bn_s]
  · intro m ⟨S1, g1⟩ ⟨x1, ra1, F1⟩
    refine ⟨_, ?_, S1, g1, rfl, x1, ra1, F1⟩
    simp only [n_X1_crawl_b196, li_60, Int32.le_refl, if_true]
end
