/-! the keeper's call watch -/
section
variable {S S' S1 : St} {g g' : GA} {T U : List Nat} {n m a b c x y t i : Nat} {f f' : Fl} {rs : List RtV} {en : En} {o : Nat → Option Nat} {ac : List AcV} {sg : List SgV} {w : Int64} {nm : Nm} {s : Sg} {rk : Nat → Nat} {k p : Nat} {e : EnV}
theorem k_begin0 (hf : RKf g f S) {r : RtV} (h : RKt g S r) (hF : FR g S) (hb : r.1 < fMd f) : ∃ S' g', n_X6_begin S (some (g.2 4 r.1)) = some ((), S') ∧ KX [0, 4, 6, 7] [6] 5 g S g' S' ∧ (∀ a, (g.1 a).1 ≠ 0 → g.1 a ≠ (4, r.1) → g.1 a ≠ (7, r.1) → S'.1 a = S.1 a) ∧ (∀ i, i ≠ r.1 → g'.2 6 i = g.2 6 i) ∧ RKt g' S' (begR r) ∧ FR g' S' := by
  obtain ⟨k1, k2, k5, k6, k7, k8, k9⟩ := h
  obtain ⟨D, eD⟩ : ∃ D, D = S.2.1 := ⟨_, rfl⟩
  have z0 : (g.1 D).1 = 0 := hF D (by omega)
  have ne : ∀ {z t i}, g.1 z = (t, i) → t ≠ 0 → z ≠ D := fun {z t i} hz ht e => by rw [e] at hz; rw [hz] at z0; exact ht z0
  have n4 := ne k7 (by decide)
  have n7 := ne k9 (by decide)
  have n74 : g.2 7 r.1 ≠ g.2 4 r.1 := fun e => by rw [e, k7] at k9; cases k9
  obtain ⟨S1, e1⟩ : ∃ S1, S1 = spu S (cO 14 [vR none, vI 0, vI 0]) 3 := ⟨_, rfl⟩
  have c1 : S1.1 D = some (cO 14 [vR none, vI 0, vI 0]) := by rw [e1, eD]; exact spu_at _ _ _
  have h1 : Ch D 1 S S1 := by rw [e1, eD]; exact Ch_spu _ (by omega) (Nat.le_refl _)
  obtain ⟨S2, i1, i2, -, i4⟩ := dq_init c1 rfl
  have h2 : Ch D 5 S S2 := Ch_n (Ch_tr h1 i4) (by decide)
  have c2 : S2.1 (g.2 4 r.1) = some (rtC g r) := by rw [h2.1 _ n4]; exact k1
  obtain ⟨S3, e3⟩ : ∃ S3, S3 = sup S2 (g.2 4 r.1) (cO 4 [vR (some (g.2 2 r.1)), vR (some (g.2 5 r.1)), vI (b2i r.2.2.1), vR (some D), vR (some (g.2 7 r.1))]) := ⟨_, rfl⟩
  have p3 : pR S2 (some (g.2 4 r.1)) 4 3 (some D) = some S3 := by
    rw [e3, pR_e (show S2.1 (g.2 4 r.1) = some (cO 4 [vR (some (g.2 2 r.1)), vR (some (g.2 5 r.1)), vI (b2i r.2.2.1), vR (r.2.2.2.1.map fun _ => g.2 6 r.1), vR (some (g.2 7 r.1))]) from c2), if_pos (by simp)]; rfl
  have c3 : S3.1 (g.2 4 r.1) = some (cO 4 [vR (some (g.2 2 r.1)), vR (some (g.2 5 r.1)), vI (b2i r.2.2.1), vR (some D), vR (some (g.2 7 r.1))]) := by rw [e3]; exact sup_at _ _ _
  have o3 : ∀ a, a ≠ g.2 4 r.1 → S3.1 a = S2.1 a := fun a ha => by rw [e3]; exact sup_ne _ _ ha
  have d3 : isDQ S3 D [] := i2.fr (o3 _ (Ne.symm n4))
  have hnode : grc S3 (some (g.2 2 r.1)) 1 = true := by
    have hc := (hf.2.2 _ hb).1
    have ho := (hf.2.2 _ hb).2.2.1
    have : S3.1 (g.2 2 r.1) = some (ndC g f r.1) := by
      rw [o3 _ (fun e => by rw [e, k7] at ho; cases ho), h2.1 _ (ne ho (by decide))]; exact hc
    exact grc_o this
  obtain ⟨S4, a1, a2, a4⟩ := dq_add0 d3 (x := some (g.2 2 r.1)) (okst_g hnode (by decide)) rfl
  have o4 : ∀ a, a ≠ D → S4.1 a = S3.1 a := a4.1
  have c4 : S4.1 (g.2 7 r.1) = some (cBS r.2.2.2.2) := by rw [o4 _ n7, o3 _ n74, h2.1 _ n7]; exact k6
  obtain ⟨S5, e5⟩ : ∃ S5, S5 = sup S4 (g.2 7 r.1) (cBS 0) := ⟨_, rfl⟩
  have o5 : ∀ a, a ≠ g.2 7 r.1 → S5.1 a = S4.1 a := fun a ha => by rw [e5]; exact sup_ne _ _ ha
  have oA : ∀ a, a ≠ D → a ≠ g.2 4 r.1 → a ≠ g.2 7 r.1 → S5.1 a = S.1 a := fun a x1 x2 x3 => by rw [o5 a x3, o4 a x1, o3 a x2, h2.1 a x1]
  have x12 : KX [0, 4, 6, 7] [6] 5 g S g S2 := KX_ch h2 (by decide) (by rw [z0]; decide)
  have x23 : KX [0, 4, 6, 7] [6] 0 g S2 g S3 := by rw [e3]; exact KX_ch1 (Ch_sup _) k7
  have x34 : KX [0, 4, 6, 7] [6] 0 g S3 g S4 := KX_ch a4 (by decide) (by rw [z0]; decide)
  have x45 : KX [0, 4, 6, 7] [6] 0 g S4 g S5 := by rw [e5]; exact KX_ch1 (Ch_sup _) k9
  have x15 : KX [0, 4, 6, 7] [6] 5 g S g S5 := KX_n (KX_tr (KX_tr (KX_tr x12 x23) x34) x45) (by decide)
  obtain ⟨g', eg⟩ : ∃ g', g' = newO (adS g 6 r.1 D) D 6 r.1 := ⟨_, rfl⟩
  have hlt : D < S5.2.1 := by
    have : S1.2.1 = D + 1 := by rw [e1, eD]; rfl
    have q1 := i4.2.1
    have q2 := x23.le
    have q3 := x34.le
    have q4 := x45.le
    omega
  have F' : FR g' S5 := by rw [eg]; exact FR_own (g := adS g 6 r.1 D) (FR_sm hF x15.le) hlt _ _
  have x' : KX [0, 4, 6, 7] [6] 5 g S g' S5 := by
    rw [eg]
    exact KX_n (KX_tr (KX_tr x15 (KX_adS (by decide) (by decide) r.1 D)) (KX_own (g := adS g 6 r.1 D) z0 6 r.1 (by decide))) (by decide)
  have g2 : ∀ t, t ≠ 6 → g'.2 t = g.2 t := fun t ht => by rw [eg, newO_2, adS_o D ht]
  have g26 : g'.2 6 r.1 = D := by rw [eg, newO_2, adS_s]
  have g1 : ∀ {z t i}, g.1 z = (t, i) → t ≠ 0 → g'.1 z = (t, i) := fun {z t i} hz ht => by rw [eg, newO_1, if_neg (ne hz ht)]; exact hz
  refine ⟨S5, g', ?_, x', fun a h0 h4 h7 => oA a (fun e => h0 (by rw [e]; exact z0)) (fun e => h4 (by rw [e]; exact k7)) (fun e => h7 (by rw [e]; exact k9)), fun i hi => by rw [eg, newO_2, adS_n 6 D hi], ?_, F'⟩
  · have q3 : gR S3 (some (g.2 4 r.1)) 4 3 = some (some D) := by rw [gR_e c3]; rfl
    have q0 : gR S3 (some (g.2 4 r.1)) 4 0 = some (some (g.2 2 r.1)) := by rw [gR_e c3]; rfl
    have q4 : gR S4 (some (g.2 4 r.1)) 4 4 = some (some (g.2 7 r.1)) := by rw [gR_e (show S4.1 (g.2 4 r.1) = _ from (o4 _ n4).trans c3)]; rfl
    simp only [n_X6_begin, nwB_e, ← eD, ← e1, Option.isSome_some, gd_t, i1, bn_s, p3, ob_s, q3, q0, d3.cl, a1, q4, isBS_cl c4, bs_clear c4, ← e5]
  · have n5D := ne k8 (by decide)
    have n54 : g.2 5 r.1 ≠ g.2 4 r.1 := fun e => by rw [e, k7] at k8; cases k8
    have n57 : g.2 5 r.1 ≠ g.2 7 r.1 := fun e => by rw [e, k9] at k8; cases k8
    obtain ⟨ts, t1, t2, t3⟩ := k2
    refine ⟨?_, ⟨ts, ?_, t2, fun i tt p ht hp => ?_⟩, fun l hl => ?_, ?_, ?_, ?_, ?_⟩
    · show S5.1 (g'.2 4 r.1) = some (cO 4 [vR (some (g'.2 2 r.1)), vR (some (g'.2 5 r.1)), vI (b2i r.2.2.1), vR (some (g'.2 6 r.1)), vR (some (g'.2 7 r.1))])
      rw [g2 4 (by decide), g2 2 (by decide), g2 5 (by decide), g26, g2 7 (by decide), o5 _ (Ne.symm n74), o4 _ n4]
      exact c3
    · show isLL S5 (g'.2 5 r.1) _
      rw [g2 5 (by decide)]
      exact t1.fr (oA _ n5D n54 n57)
    · obtain ⟨y1, y2⟩ := t3 i tt p ht hp
      have hxt : g.1 tt = (8, (g.1 tt).2) := by rw [← y2]
      have cs := x'.cs
      simp only [toldC, cs, g2 2 (by decide)]
      exact ⟨(oA tt (ne hxt (by decide)) (fun e => by rw [e, k7] at y2; cases y2) (fun e => by rw [e, k9] at y2; cases y2)).trans y1, by rw [g1 hxt (by decide)]⟩
    · have hl' : l = [r.1] := by simp [begR] at hl; exact hl.symm
      subst hl'
      show isDQ S5 (g'.2 6 r.1) _ ∧ g'.1 (g'.2 6 r.1) = (6, r.1)
      rw [g26, g2 2 (by decide)]
      exact ⟨a2.fr (o5 _ (Ne.symm n7)), by rw [eg, newO_1, if_pos rfl]⟩
    · show S5.1 (g'.2 7 r.1) = some (cBS 0)
      rw [g2 7 (by decide), e5]; exact sup_at _ _ _
    · show g'.1 (g'.2 4 r.1) = (4, r.1)
      rw [g2 4 (by decide)]; exact g1 k7 (by decide)
    · show g'.1 (g'.2 5 r.1) = (5, r.1)
      rw [g2 5 (by decide)]; exact g1 k8 (by decide)
    · show g'.1 (g'.2 7 r.1) = (7, r.1)
      rw [g2 7 (by decide)]; exact g1 k9 (by decide)
/-- a root whose row of addresses is the same -/
theorem RKt.fr2 {q : RtV} (h : RKt g S q) (h1 : ∀ a, (g.1 a).1 ∈ [4, 5, 6, 7, 8] → S'.1 a = S.1 a) (hg : ∀ a, (g.1 a).1 ≠ 0 → g'.1 a = g.1 a) (h2 : g'.2 2 = g.2 2) (had : ∀ t ∈ [4, 5, 6, 7], g'.2 t q.1 = g.2 t q.1) (hcs : S'.2.2.2 = S.2.2.2) : RKt g' S' q := by
  obtain ⟨k1, ⟨ts, k2, k3, k4⟩, k5, k6, k7, k8, k9⟩ := h
  have a4 := had 4 (by decide)
  have a5 := had 5 (by decide)
  have a6 := had 6 (by decide)
  have a7 := had 7 (by decide)
  have ow1 : ∀ {x t i}, g.1 x = (t, i) → t ≠ 0 → g'.1 x = (t, i) := fun {x t i} hx ht => by rw [hg x (by rw [hx]; exact ht)]; exact hx
  have at1 : ∀ {x t i}, g.1 x = (t, i) → t ∈ [4, 5, 6, 7, 8] → S'.1 x = S.1 x := fun {x t i} hx ht => h1 x (by rw [hx]; exact ht)
  simp only [RKt, RKq, rtC, toldC, h2, a4, a5, a7, a6, hcs]
  refine ⟨(at1 k7 (by decide)).trans k1, ⟨ts, k2.fr (at1 k8 (by decide)), k3, fun i t p ht hp => ?_⟩, fun l hl => ?_, (at1 k9 (by decide)).trans k6, ow1 k7 (by decide), ow1 k8 (by decide), ow1 k9 (by decide)⟩
  · obtain ⟨x1, x2⟩ := k4 i t p ht hp
    exact ⟨(h1 t (by rw [x2]; decide)).trans x1, by rw [hg t (by rw [x2]; decide)]; exact x2⟩
  · obtain ⟨x1, x2⟩ := k5 l hl
    exact ⟨x1.fr (at1 x2 (by decide)), ow1 x2 (by decide)⟩
end
