/-! the keeper's calls: lose, crawl, isQuiet, stale, dead -/
section
variable {S S' S1 : St} {g g' : GA} {T U : List Nat} {n m a b c x y t i : Nat} {f f' : Fl} {rs : List RtV} {en : En} {o : Nat → Option Nat} {ac : List AcV} {sg : List SgV} {w : Int64} {nm : Nm} {s : Sg} {rk : Nat → Nat} {k p : Nat} {e : EnV}
theorem dq_add0 {x : Option Nat} (h : isDQ S a []) (hx : okst S 4 x = true) (hs : x.isSome = true) : ∃ S', h_J33_add S (some a) x = some (1, S') ∧ isDQ S' a [x] ∧ Ch a 0 S S' := by
  obtain ⟨cap, hc, h⟩ := h
  have e : (([] : List (Option Nat)).length + 1 < cap) := by simp; omega
  have ec : dqcap cap ([] : List (Option Nat)).length = cap := by unfold dqcap; rw [if_pos e]
  refine ⟨sup S a (cDQ cap [x]), ?_, ⟨cap, hc, sup_at _ _ _⟩, Ch_sup _⟩
  simp only [h_J33_add, h_J33_addLast, gdqc_e h, Option.bind_some, hx, hs, show ([] : List (Option Nat)).length < 1000 by decide, and_self, if_true, e, ec, List.nil_append]
theorem k_begin (hf : RKf g f S) (h : RKr g rs S) (hF : FR g S) (hN : (rs.map (·.1)).Nodup) {r : RtV} (hr : r ∈ rs) (hb : r.1 < fMd f) : ∃ S' g', n_X6_begin S (some (g.2 4 r.1)) = some ((), S') ∧ KX [0, 4, 6, 7] [6] 5 g S g' S' ∧ RKr g' (updR rs r.1 begR) S' ∧ FR g' S' := by
  obtain ⟨k1, k2, k5, k6, k7, k8, k9⟩ := h.2.2 r hr
  obtain ⟨D, eD⟩ : ∃ D, D = S.2.1 := ⟨_, rfl⟩
  have z0 : (g.1 D).1 = 0 := hF D (by omega)
  have ne : ∀ {z t i}, g.1 z = (t, i) → t ≠ 0 → z ≠ D := fun {z t i} hz ht e => by rw [e] at hz; rw [hz] at z0; exact ht z0
  have n4 := ne k7 (by decide)
  have n7 := ne k9 (by decide)
  have n74 : g.2 7 r.1 ≠ g.2 4 r.1 := fun e => by rw [e, k7] at k9; cases k9
  obtain ⟨S1, e1⟩ : ∃ S1, S1 = spu S (cO 14 [vR none, vI 0, vI 0]) 3 := ⟨_, rfl⟩
  have c1 : S1.1 D = some (cO 14 [vR none, vI 0, vI 0]) := by rw [e1, eD]; exact spu_at _ _ _
  have h1 : Ch D 1 S S1 := by rw [e1, eD]; exact Ch_spu _ (by omega) (Nat.le_refl _)
  obtain ⟨S2, i1, i2, -, i4⟩ := dq_init c1 rfl
  have h2 : Ch D 5 S S2 := Ch_n (Ch_tr h1 i4) (by decide)
  have c2 : S2.1 (g.2 4 r.1) = some (rtC g r) := by rw [h2.1 _ n4]; exact k1
  obtain ⟨S3, e3⟩ : ∃ S3, S3 = sup S2 (g.2 4 r.1) (cO 4 [vR (some (g.2 2 r.1)), vR (some (g.2 5 r.1)), vI (b2i r.2.2.1), vR (some D), vR (some (g.2 7 r.1))]) := ⟨_, rfl⟩
  have p3 : pR S2 (some (g.2 4 r.1)) 4 3 (some D) = some S3 := by
    rw [e3, pR_e (show S2.1 (g.2 4 r.1) = some (cO 4 [vR (some (g.2 2 r.1)), vR (some (g.2 5 r.1)), vI (b2i r.2.2.1), vR (r.2.2.2.1.map fun _ => g.2 6 r.1), vR (some (g.2 7 r.1))]) from c2), if_pos (by simp)]; rfl
  have c3 : S3.1 (g.2 4 r.1) = some (cO 4 [vR (some (g.2 2 r.1)), vR (some (g.2 5 r.1)), vI (b2i r.2.2.1), vR (some D), vR (some (g.2 7 r.1))]) := by rw [e3]; exact sup_at _ _ _
  have o3 : ∀ a, a ≠ g.2 4 r.1 → S3.1 a = S2.1 a := fun a ha => by rw [e3]; exact sup_ne _ _ ha
  have d3 : isDQ S3 D [] := i2.fr (o3 _ (Ne.symm n4))
  have hnode : grc S3 (some (g.2 2 r.1)) 1 = true := by
    have hc := (hf.2.2 _ hb).1
    have ho := (hf.2.2 _ hb).2.2.1
    have : S3.1 (g.2 2 r.1) = some (ndC g f r.1) := by
      rw [o3 _ (fun e => by rw [e, k7] at ho; cases ho), h2.1 _ (ne ho (by decide))]; exact hc
    exact grc_o this
  obtain ⟨S4, a1, a2, a4⟩ := dq_add0 d3 (x := some (g.2 2 r.1)) (okst_g hnode (by decide)) rfl
  have o4 : ∀ a, a ≠ D → S4.1 a = S3.1 a := a4.1
  have c4 : S4.1 (g.2 7 r.1) = some (cBS r.2.2.2.2) := by rw [o4 _ n7, o3 _ n74, h2.1 _ n7]; exact k6
  obtain ⟨S5, e5⟩ : ∃ S5, S5 = sup S4 (g.2 7 r.1) (cBS 0) := ⟨_, rfl⟩
  have o5 : ∀ a, a ≠ g.2 7 r.1 → S5.1 a = S4.1 a := fun a ha => by rw [e5]; exact sup_ne _ _ ha
  have oA : ∀ a, a ≠ D → a ≠ g.2 4 r.1 → a ≠ g.2 7 r.1 → S5.1 a = S.1 a := fun a x1 x2 x3 => by rw [o5 a x3, o4 a x1, o3 a x2, h2.1 a x1]
  have x12 : KX [0, 4, 6, 7] [6] 5 g S g S2 := KX_ch h2 (by decide) (by rw [z0]; decide)
  have x23 : KX [0, 4, 6, 7] [6] 0 g S2 g S3 := by rw [e3]; exact KX_ch1 (Ch_sup _) k7
  have x34 : KX [0, 4, 6, 7] [6] 0 g S3 g S4 := KX_ch a4 (by decide) (by rw [z0]; decide)
  have x45 : KX [0, 4, 6, 7] [6] 0 g S4 g S5 := by rw [e5]; exact KX_ch1 (Ch_sup _) k9
  have x15 : KX [0, 4, 6, 7] [6] 5 g S g S5 := KX_n (KX_tr (KX_tr (KX_tr x12 x23) x34) x45) (by decide)
  obtain ⟨g', eg⟩ : ∃ g', g' = newO (adS g 6 r.1 D) D 6 r.1 := ⟨_, rfl⟩
  have hlt : D < S5.2.1 := by
    have : S1.2.1 = D + 1 := by rw [e1, eD]; rfl
    have q1 := i4.2.1
    have q2 := x23.le
    have q3 := x34.le
    have q4 := x45.le
    omega
  have F' : FR g' S5 := by rw [eg]; exact FR_own (g := adS g 6 r.1 D) (FR_sm hF x15.le) hlt _ _
  have x' : KX [0, 4, 6, 7] [6] 5 g S g' S5 := by
    rw [eg]
    exact KX_n (KX_tr (KX_tr x15 (KX_adS (by decide) (by decide) r.1 D)) (KX_own (g := adS g 6 r.1 D) z0 6 r.1 (by decide))) (by decide)
  have g2 : ∀ t, t ≠ 6 → g'.2 t = g.2 t := fun t ht => by rw [eg, newO_2, adS_o D ht]
  have g26 : g'.2 6 r.1 = D := by rw [eg, newO_2, adS_s]
  have g1 : ∀ {z t i}, g.1 z = (t, i) → t ≠ 0 → g'.1 z = (t, i) := fun {z t i} hz ht => by rw [eg, newO_1, if_neg (ne hz ht)]; exact hz
  refine ⟨S5, g', ?_, x', ?_, F'⟩
  · have q3 : gR S3 (some (g.2 4 r.1)) 4 3 = some (some D) := by rw [gR_e c3]; rfl
    have q0 : gR S3 (some (g.2 4 r.1)) 4 0 = some (some (g.2 2 r.1)) := by rw [gR_e c3]; rfl
    have q4 : gR S4 (some (g.2 4 r.1)) 4 4 = some (some (g.2 7 r.1)) := by rw [gR_e (show S4.1 (g.2 4 r.1) = _ from (o4 _ n4).trans c3)]; rfl
    simp only [n_X6_begin, nwB_e, ← eD, ← e1, Option.isSome_some, gd_t, i1, bn_s, p3, ob_s, q3, q0, d3.cl, a1, q4, isBS_cl c4, bs_clear c4, ← e5]
  · refine RKr_upd h hN hr begR rfl (fun a h0 ha hb2 => ?_) (fun a ha => by rw [eg, newO_1, if_neg (fun e => ha (by rw [e]; exact z0))]; rfl) (fun t ht => g2 t (fun e => by rw [e] at ht; exact absurd ht (by decide))) (fun i hi => by rw [eg, newO_2, adS_n 6 D hi]) x'.cs ?_
    · refine oA a (fun e => h0 (by rw [e]; exact z0)) (fun e => ?_) (fun e => ?_)
      · rw [e, k7] at ha; rcases ha with z | z
        · exact z (show (4 : Nat) ∈ [4, 5, 6, 7] by decide)
        · exact z rfl
      · rw [e, k9] at ha; rcases ha with z | z
        · exact z (show (7 : Nat) ∈ [4, 5, 6, 7] by decide)
        · exact z rfl
    · have n5D := ne k8 (by decide)
      have n54 : g.2 5 r.1 ≠ g.2 4 r.1 := fun e => by rw [e, k7] at k8; cases k8
      have n57 : g.2 5 r.1 ≠ g.2 7 r.1 := fun e => by rw [e, k9] at k8; cases k8
      obtain ⟨ts, t1, t2, t3⟩ := k2
      refine ⟨?_, ⟨ts, ?_, t2, fun i tt p ht hp => ?_⟩, fun l hl => ?_, ?_, ?_, ?_, ?_⟩
      · show S5.1 (g'.2 4 r.1) = some (cO 4 [vR (some (g'.2 2 r.1)), vR (some (g'.2 5 r.1)), vI (b2i r.2.2.1), vR (some (g'.2 6 r.1)), vR (some (g'.2 7 r.1))])
        rw [g2 4 (by decide), g2 2 (by decide), g2 5 (by decide), g26, g2 7 (by decide), o5 _ (Ne.symm n74), o4 _ n4]
        exact c3
      · show isLL S5 (g'.2 5 r.1) _
        rw [g2 5 (by decide)]
        exact t1.fr (oA _ n5D n54 n57)
      · obtain ⟨y1, y2⟩ := t3 i tt p ht hp
        have hxt : g.1 tt = (8, (g.1 tt).2) := by rw [← y2]
        have cs := x'.cs
        simp only [toldC, cs, g2 2 (by decide)]
        exact ⟨(oA tt (ne hxt (by decide)) (fun e => by rw [e, k7] at y2; cases y2) (fun e => by rw [e, k9] at y2; cases y2)).trans y1, by rw [g1 hxt (by decide)]⟩
      · have hl' : l = [r.1] := by simp [begR] at hl; exact hl.symm
        subst hl'
        show isDQ S5 (g'.2 6 r.1) _ ∧ g'.1 (g'.2 6 r.1) = (6, r.1)
        rw [g26, g2 2 (by decide)]
        exact ⟨a2.fr (o5 _ (Ne.symm n7)), by rw [eg, newO_1, if_pos rfl]⟩
      · show S5.1 (g'.2 7 r.1) = some (cBS 0)
        rw [g2 7 (by decide), e5]; exact sup_at _ _ _
      · show g'.1 (g'.2 4 r.1) = (4, r.1)
        rw [g2 4 (by decide)]; exact g1 k7 (by decide)
      · show g'.1 (g'.2 5 r.1) = (5, r.1)
        rw [g2 5 (by decide)]; exact g1 k8 (by decide)
      · show g'.1 (g'.2 7 r.1) = (7, r.1)
        rw [g2 7 (by decide)]; exact g1 k9 (by decide)
theorem foldl_cnt {α : Type} (l : List α) (q : α → Bool) (c : Nat) : l.foldl (fun c r => c + if q r then 1 else 0) c = c + l.countP q := by
  induction l generalizing c with
  | nil => simp
  | cons x l ih =>
    simp only [List.foldl_cons, ih, List.countP_cons]
    omega
theorem k_crawlO (h : RK g s S) (h6 : fMd (zF s) ≤ 60) (hT : RT (zF s) (zR s)) (hN : ((zR s).map (·.1)).Nodup) (x : Int32) : KO [IOE] 10 g S (n_X1_crawl_2 S (some (g.2 1 0)) x) (opCrawl s x) := by
  have hh := h
  obtain ⟨h1, h2, h3, h4, h5, h6', h7, h8⟩ := h
  have hR := hT.toS
  obtain ⟨S1, e1, x1⟩ := k_rootAt h1 h2 h3 h8 hR h6 x
  simp only [n_X1_crawl_2, h1.cl, gd_t, opCrawl]
  cases hr : rtA (zR s) x with
  | none =>
    rw [hr] at e1
    simp only [e1, Option.elim, tbn_x]
    exact KO_x2 (j := 0) rfl hh 0 (by decide) x1 (by decide)
  | some r =>
    rw [hr] at e1
    have hm := (rtA_mem hr).1
    have H1 := hh.kx0 x1
    have r1 := H1.2.2.1
    obtain ⟨S2, g2, b1, b2, b3, b4⟩ := k_begin H1.2.1 r1 H1.2.2.2.2.2.2.2.2.2.2 hN hm (hR.2 r hm)
    have H2 : RK g2 (wR s (updR (zR s) r.1 begR)) S2 := ⟨H1.1.kx b2, H1.2.1.kx b2, b3, H1.2.2.2.1.kx b2, H1.2.2.2.2.1.kx b2, H1.2.2.2.2.2.1.kx b2, H1.2.2.2.2.2.2.1.kx b2, H1.2.2.2.2.2.2.2.kx b2 b4⟩
    have a10 : g2.2 1 0 = g.2 1 0 := by rw [b2.ad (by decide)]
    have a21 : g2.2 21 0 = g.2 21 0 := by rw [b2.ad (by decide)]
    obtain ⟨S3, i1, i2, i3⟩ := rt_it b3 b4 (updR_RS hR (gf := begR) (a := r.1) (fun _ => rfl)).1
    have how : (g2.1 S2.2.1).1 = 0 := b4 _ (Nat.le_refl _)
    obtain ⟨S4, q1, q2⟩ := it_fold (g := g2) (fun c (r : RtV) => c + if r.2.2.2.1.isSome then 1 else 0) (fun m c S0 => n_X1_crawl_2_b20 m S0 (nI c) (some S2.2.1)) (fun c S => some (Sum.inl (nI c), S)) i2 how (fun m S1 c hit hx => by
        simp only [n_X1_crawl_2_b20, hit.cl, gd_t, hit.has_end, bn_s, if_true, rt_i]) (fun m Sa Sb i r c hr hit hx n1 n2 hx2 => by
        have hm := List.mem_of_getElem? hr
        have x2 := KX_tr i3 hx2
        have h2 := b3.kx x2
        simp only [n_X1_crawl_2_b20, n_X1_crawl_2_b54, hit.cl, gd_t, hit.has_lt hr, bn_s, i10, if_false, n1, gcst_g (h2.cl hm), ob_s, rt_3 h2 hm]
        cases r.2.2.2.1 <;> simp [nI_1]) 0
    rw [foldl_cnt, Nat.zero_add] at q2
    have k1 := kn_1 H2.1
    rw [a10, a21] at k1
    have kc := b3.1.cl
    rw [a21] at kc i1
    rw [nI_0] at q2
    simp only [e1, Option.elim, tbn_s, r1.cl hm, gd_t, b1, bn_s, k1, ob_s, kc, i1, q2]
    have xz := KX_tr i3 q1
    exact KO_s (KX_n (KX_tr (KX_tr (KX_all x1 (Nat.le_refl _)) (KX_all b2 (Nat.le_refl _))) (KX_all xz (Nat.le_refl _))) (by decide)) (H2.kx0 xz)
theorem k_isQuiet (h : RK g s S) (h6 : fMd (zF s) ≤ 60) (hT : RT (zF s) (zR s)) (hB : AB (zF s) (zA s)) : KI 10 g S (n_X1_isQuiet S (some (g.2 1 0))) (opQuiet s) := by
  have hh := h
  obtain ⟨h1, h2, h3, h4, h5, h6', h7, h8⟩ := h
  obtain ⟨S1, e1, x1⟩ := k_telling h1 h3 h8 hT
  have H1 := hh.kx0 x1
  have hl := hB.len h6
  have a1 := H1.2.2.2.2.1
  obtain ⟨S2, e2, x2⟩ := k_crawling H1.1 H1.2.2.1 H1.2.2.2.2.2.2.2 hT
  have hem : h_J0_isEmpty S1 (some (g.2 23 0)) = some (if (zA s).length = 0 then 1 else 0, S1) := by
    have := ll_isEmpty a1.1 (by rw [List.length_map]; omega)
    rw [List.length_map] at this; exact this
  have hem2 : (zA s).isEmpty = decide ((zA s).length = 0) := by cases zA s <;> simp
  simp only [n_X1_isQuiet, h1.cl, gd_t, e1, bn_s, kn_3 H1.1, ob_s, a1.1.cl, hem, H1.1.cl, e2, rt_b0, rt_b1, id, opQuiet, hem2]
  cases ht : tellg (zR s) with
  | some r => exact ⟨S1, g, by simp, KX_all x1 (by decide), H1⟩
  | none =>
    by_cases e0 : (zA s).length = 0
    · cases hc : crwlg (zR s) with
      | none => exact ⟨S2, g, by simp [e0], KX_all (KX_tr x1 x2) (by decide), H1.kx0 x2⟩
      | some r => exact ⟨S2, g, by simp [e0], KX_all (KX_tr x1 x2) (by decide), H1.kx0 x2⟩
    · exact ⟨S1, g, by simp [e0], KX_all x1 (by decide), H1⟩
end
