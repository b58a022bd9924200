/-! the keeper's call watch, further -/
section
variable {S S' S1 : St} {g g' : GA} {T U : List Nat} {n m a b c x y t i : Nat} {f f' : Fl} {rs : List RtV} {en : En} {o : Nat → Option Nat} {ac : List AcV} {sg : List SgV} {w : Int64} {nm : Nm} {s : Sg} {rk : Nat → Nat} {k p : Nat} {e : EnV}
theorem k_rtInit {R : Nat} (h : S.1 R = some (cO 4 [vR none, vR none, vI 0, vR none, vR none])) (hR : R < S.2.1) (u : Option Nat) : ∃ S', n_X6_init S (some R) u = some ((), S') ∧ S'.1 R = some (cO 4 [vR u, vR (some S.2.1), vI 0, vR none, vR (some (S.2.1 + 1))]) ∧ isLL S' S.2.1 [] ∧ S'.1 (S.2.1 + 1) = some (cBS 0) ∧ (∀ a, a ≠ R → a ≠ S.2.1 → a ≠ S.2.1 + 1 → S'.1 a = S.1 a) ∧ S.2.1 + 2 ≤ S'.2.1 ∧ S'.2.1 ≤ S.2.1 + 3 ∧ S'.2.2.1 ≤ S.2.2.1 + 15 ∧ S'.2.2.2 = S.2.2.2 := by
  obtain ⟨Q, eQ⟩ : ∃ Q, Q = S.2.1 := ⟨_, rfl⟩
  rw [← eQ]
  have nRQ : R ≠ Q := by omega
  obtain ⟨S1, e1⟩ : ∃ S1, S1 = spu S (cO 9 [vI 0, vI 0, vR none, vR none]) 4 := ⟨_, rfl⟩
  have c1 : S1.1 Q = some (cO 9 [vI 0, vI 0, vR none, vR none]) := by rw [e1, eQ]; exact spu_at _ _ _
  have s1 : S1.2.1 = Q + 1 := by rw [e1, eQ]; rfl
  obtain ⟨S2, i1, i2, i3⟩ := ll_init c1 rfl
  have s2 : S2.2.1 = Q + 1 := by have := i3.2.1; have := i3.2.2.1; omega
  have o2 : ∀ a, a ≠ Q → S2.1 a = S.1 a := fun a ha => by rw [i3.1 a ha, e1]; simp only [spu, ← eQ, if_neg ha]
  have c2 : S2.1 R = some (cO 4 [vR none, vR none, vI 0, vR none, vR none]) := by rw [o2 R nRQ]; exact h
  obtain ⟨S3, e3⟩ : ∃ S3, S3 = sup S2 R (cO 4 [vR none, vR (some Q), vI 0, vR none, vR none]) := ⟨_, rfl⟩
  have p3 : pR S2 (some R) 4 1 (some Q) = some S3 := by rw [e3, pR_e c2, if_pos (by simp)]; rfl
  have c3 : S3.1 R = some (cO 4 [vR none, vR (some Q), vI 0, vR none, vR none]) := by rw [e3]; exact sup_at _ _ _
  have s3 : S3.2.1 = Q + 1 := by rw [e3]; exact s2
  obtain ⟨S4, e4⟩ : ∃ S4, S4 = spu S3 (cO 10 [vR none, vI 0, vI 0]) 3 := ⟨_, rfl⟩
  have c4 : S4.1 (Q + 1) = some (cO 10 [vR none, vI 0, vI 0]) := by rw [e4, ← s3]; exact spu_at _ _ _
  obtain ⟨S5, j1, j2, j3⟩ := bs_init c4 rfl
  have o5 : ∀ a, a ≠ Q + 1 → S5.1 a = S3.1 a := fun a ha => by rw [j3.1 a ha, e4]; simp only [spu, s3, if_neg ha]
  have c5 : S5.1 R = some (cO 4 [vR none, vR (some Q), vI 0, vR none, vR none]) := by rw [o5 R (by omega)]; exact c3
  obtain ⟨S6, e6⟩ : ∃ S6, S6 = sup S5 R (cO 4 [vR none, vR (some Q), vI 0, vR none, vR (some (Q + 1))]) := ⟨_, rfl⟩
  have p6 : pR S5 (some R) 4 4 (some (Q + 1)) = some S6 := by rw [e6, pR_e c5, if_pos (by simp)]; rfl
  have c6 : S6.1 R = some (cO 4 [vR none, vR (some Q), vI 0, vR none, vR (some (Q + 1))]) := by rw [e6]; exact sup_at _ _ _
  obtain ⟨S7, e7⟩ : ∃ S7, S7 = sup S5 R (cO 4 [vR u, vR (some Q), vI 0, vR none, vR (some (Q + 1))]) := ⟨_, rfl⟩
  have p7 : pR S6 (some R) 4 0 u = some S7 := by rw [e7, pR_e c6, if_pos (by simp), e6, sup_sup]; rfl
  have o7 : ∀ a, a ≠ R → S7.1 a = S5.1 a := fun a ha => by rw [e7]; exact sup_ne _ _ ha
  have o3 : ∀ a, a ≠ R → S3.1 a = S2.1 a := fun a ha => by rw [e3]; exact sup_ne _ _ ha
  have t4 : S4.2.1 = Q + 2 := by rw [e4]; show S3.2.1 + 1 = _; omega
  have t4b : S4.2.2.1 = S2.2.2.1 + 3 := by rw [e4, e3]; rfl
  have t1b : S1.2.2.1 = S.2.2.1 + 4 := by rw [e1]; rfl
  have t7 : S7.2 = S5.2 := by rw [e7]; rfl
  refine ⟨S7, ?_, by rw [e7]; exact sup_at _ _ _, ?_, ?_, fun a h1 h2 h3 => ?_, ?_, ?_, ?_, ?_⟩
  · simp only [n_X6_init, Option.isSome_some, gd_t, nwB_e, ← eQ, ← e1, i1, bn_s, p3, ob_s, s3, ← e4, j1, p6, p7]
  · exact i2.fr (by rw [o7 _ (Ne.symm nRQ), o5 _ (by omega), o3 _ (Ne.symm nRQ)])
  · rw [o7 _ (by omega)]; exact j2
  · rw [o7 a h1, o5 a h3, o3 a h1, o2 a h2]
  · rw [t7]; have := j3.2.1; omega
  · rw [t7]; have := j3.2.2.1; omega
  · rw [t7]; have := j3.2.2.2.1; have := i3.2.2.2.1; omega
  · rw [t7, j3.2.2.2.2, e4, e3, show (spu (sup S2 R _) _ 3).2.2.2 = S2.2.2.2 from rfl, i3.2.2.2.2, e1]; rfl
/-- a new root -/
theorem k_newRoot (h : RK g s S) (hn : n < fMd (zF s)) (hno : ∀ r ∈ zR s, r.1 ≠ n) : ∃ S' g' R, nwB S (cO 4 [vR none, vR none, vI 0, vR none, vR none]) 5 (fun q5 S6 => bn (n_X6_init S6 q5 (some (g.2 2 n))) fun _ S7 => gd (grc S7 q5 4) <| bn (n_X6_begin S7 q5) fun _ S9 => (gR S9 (some (g.2 1 0)) 0 1).bind fun v11 => gd (grc S9 v11 9) <| h_J4_add S9 v11 q5) = some (1, S') ∧ R = 1 ∧ KX TT UU 11 g S g' S' ∧ RK g' (wR s (zR s ++ [begR (n, [], false, none, 0)])) S' ∧ g'.2 1 0 = g.2 1 0 ∧ g'.2 21 0 = g.2 21 0 := by
  obtain ⟨h1, h2, h3, h4, h5, h6, h7, h8⟩ := h
  have hF := h8.2.2.2
  obtain ⟨R, eR⟩ : ∃ R, R = S.2.1 := ⟨_, rfl⟩
  have z0 : ∀ a, R ≤ a → (g.1 a).1 = 0 := fun a ha => hF a (by omega)
  have ne : ∀ {z t i}, g.1 z = (t, i) → t ≠ 0 → z < R := fun {z t i} hz ht => by rw [eR]; exact ow_lt hF hz ht
  obtain ⟨S1, e1⟩ : ∃ S1, S1 = spu S (cO 4 [vR none, vR none, vI 0, vR none, vR none]) 5 := ⟨_, rfl⟩
  have c1 : S1.1 R = some (cO 4 [vR none, vR none, vI 0, vR none, vR none]) := by rw [e1, eR]; exact spu_at _ _ _
  have s1 : S1.2.1 = R + 1 := by rw [e1, eR]; rfl
  have o1 : ∀ a, a ≠ R → S1.1 a = S.1 a := fun a ha => by rw [e1]; simp only [spu, ← eR, if_neg ha]
  obtain ⟨S2, i1, i2, i3, i4, i5, i6, i7, i8, i9⟩ := k_rtInit c1 (by omega) (some (g.2 2 n))
  rw [s1] at i2 i3 i4 i5 i6 i7
  have oo : ∀ a, a < R → S2.1 a = S.1 a := fun a ha => by rw [i5 a (by omega) (by omega) (by omega), o1 a (by omega)]
  -- owners
  obtain ⟨g2, eg⟩ : ∃ g2 : GA, g2 = (fun b => if b = R then (4, n) else if b = R + 1 then (5, n) else if b = R + 2 then (7, n) else g.1 b, fun t' i' => if i' = n ∧ t' = 4 then R else if i' = n ∧ t' = 5 then R + 1 else if i' = n ∧ t' = 7 then R + 2 else g.2 t' i') := ⟨_, rfl⟩
  have g21 : ∀ a, a < R → g2.1 a = g.1 a := fun a ha => by
    rw [eg]; simp only; rw [if_neg (by omega), if_neg (by omega), if_neg (by omega)]
  have g2o : ∀ t, t ≠ 4 → t ≠ 5 → t ≠ 7 → g2.2 t = g.2 t := fun t q4 q5 q7 => by
    rw [eg]; funext i; simp [q4, q5, q7]
  have g2n : ∀ t i, i ≠ n → g2.2 t i = g.2 t i := fun t i hi => by rw [eg]; simp [hi]
  have g24 : g2.2 4 n = R := by rw [eg]; simp
  have g25 : g2.2 5 n = R + 1 := by rw [eg]; simp
  have g27 : g2.2 7 n = R + 2 := by rw [eg]; simp
  have hnz : ∀ a, (g.1 a).1 ≠ 0 → a < R := fun a ha => by
    by_cases e : a < R
    · exact e
    · exact absurd (z0 a (by omega)) ha
  have x2 : KX [0] [4, 5, 7] 5 g S g2 S2 := ⟨by decide, fun a ha => oo a (hnz a (fun z => ha (by rw [z]; decide))), fun a ha => g21 a (hnz a ha), fun t ht => g2o t (fun e => ht (by rw [e]; decide)) (fun e => ht (by rw [e]; decide)) (fun e => ht (by rw [e]; decide)), by omega, by omega, by
    have : S1.2.2.1 = S.2.2.1 + 5 := by rw [e1]; rfl
    omega, by rw [i9, e1]; rfl⟩
  have F2 : FR g2 S2 := fun a ha => by
    rw [eg]; simp only
    rw [if_neg (by omega), if_neg (by omega), if_neg (by omega)]; exact z0 a (by omega)
  have r2 : RKt g2 S2 (n, [], false, none, 0) := by
    refine ⟨?_, ⟨[], ?_, rfl, fun i tt p ht => by simp at ht⟩, fun l hl => by simp at hl, ?_, ?_, ?_, ?_⟩
    · show S2.1 (g2.2 4 n) = some (cO 4 [vR (some (g2.2 2 n)), vR (some (g2.2 5 n)), vI (b2i false), vR none, vR (some (g2.2 7 n))])
      rw [g24, g25, g27, g2o 2 (by decide) (by decide) (by decide)]; exact i2
    · show isLL S2 (g2.2 5 n) []
      rw [g25]; exact i3
    · show S2.1 (g2.2 7 n) = some (cBS 0)
      rw [g27]; exact i4
    · show g2.1 (g2.2 4 n) = (4, n)
      rw [g24, eg]; simp
    · show g2.1 (g2.2 5 n) = (5, n)
      rw [g25, eg]; simp
    · show g2.1 (g2.2 7 n) = (7, n)
      rw [g27, eg]; simp
  have f2 := h2.kx x2
  have n2 := h1.kx x2
  obtain ⟨S3, g3, b1, b2, b3, b4, b5, b6⟩ := k_begin0 f2 r2 F2 hn
  have a21 : g3.2 21 0 = g.2 21 0 := by rw [b2.ad (by decide), x2.ad (by decide)]
  have a10 : g3.2 1 0 = g.2 1 0 := by rw [b2.ad (by decide), x2.ad (by decide)]
  have old : ∀ q ∈ zR s, RKt g3 S3 q := fun q hq => by
    have q2 : RKt g2 S2 q := (h3.2.2 q hq).fr2 (fun a ha => oo a (hnz a (fun z => by rw [z] at ha; exact absurd ha (by decide)))) (fun a ha => g21 a (hnz a ha)) (g2o 2 (by decide) (by decide) (by decide)) (fun t _ => g2n t _ (hno q hq)) x2.cs
    refine q2.fr (fun a ha hb => b3 a (fun z => by rw [z] at ha; exact absurd ha (by decide)) (fun z => ?_) (fun z => ?_)) (fun a ha => b3 a (by rw [ha]; decide) (fun z => by rw [z] at ha; cases ha) (fun z => by rw [z] at ha; cases ha)) (fun a ha => b2.2.2.1 a ha) (fun t ht => b2.ad (fun z => ?_)) (b4 _ (hno q hq)) b2.cs
    · rw [z] at hb; exact hno q hq hb.symm
    · rw [z] at hb; exact hno q hq hb.symm
    · simp only [List.mem_cons, List.not_mem_nil, or_false] at ht z; omega
  have l3 : isLL S3 (g3.2 21 0) ((zR s).map fun r => some (g3.2 4 r.1)) := by
    have e : ((zR s).map fun r => some (g3.2 4 r.1)) = (zR s).map fun r => some (g.2 4 r.1) := List.map_congr_left fun q hq => by rw [b2.ad (by decide), g2n 4 _ (hno q hq)]
    rw [e, a21]
    exact h3.1.fr ((b2.at1 (show g2.1 (g.2 21 0) = (21, 0) from (g21 _ (ne h3.2.1 (by decide))).trans h3.2.1) (by decide)).trans (x2.at1 h3.2.1 (by decide)))
  have o21 : g3.1 (g3.2 21 0) = (21, 0) := by
    rw [a21]
    exact b2.ow1 (x2.ow1 h3.2.1 (by decide)) (by decide)
  have a4 : g3.2 4 n = R := by rw [b2.ad (by decide), g24]
  obtain ⟨S4, d1, d2, d3⟩ := ll_add l3 (some R)
  have x4 : KX [0, 21] [] 1 g3 S3 g3 S4 := KX_ch1 d3 o21
  have x24 : KX [0, 4, 6, 7, 21] [6] 6 g2 S2 g3 S4 := KX_tr (KX_up b2 (by decide) (by decide) (Nat.le_refl _)) (KX_up x4 (by decide) (by decide) (Nat.le_refl _))
  have R4 : RKr g3 (zR s ++ [begR (n, [], false, none, 0)]) S4 := by
    refine ⟨?_, o21, fun q hq => ?_⟩
    · rw [List.map_append]
      show isLL S4 (g3.2 21 0) ((zR s).map (fun r => some (g3.2 4 r.1)) ++ [some (g3.2 4 n)])
      rw [a4]; exact d2
    · rcases List.mem_append.mp hq with z | z
      · exact (old q z).kx x4
      · have : q = begR (n, [], false, none, 0) := by simpa using z
        rw [this]; exact b5.kx x4
  have F4 : FR g3 S4 := FR_sm b6 x4.le
  have xall : KX TT UU 11 g S g3 S4 := KX_n (KX_tr (KX_all x2 (Nat.le_refl _)) (KX_all x24 (Nat.le_refl _))) (by decide)
  refine ⟨S4, g3, 1, ?_, rfl, xall, ⟨n2.kx x24, f2.kx x24, R4, (h4.kx x2).kx x24, (h5.kx x2).kx x24, (h6.kx x2).kx x24, (h7.kx x2).kx x24, (h8.kx x2 F2).kx x24 F4⟩, a10, a21⟩
  have k1 := kn_1 ((n2).kx b2)
  rw [a10, a21] at k1
  have cl2 := r2
  have b1' : n_X6_begin S2 (some R) = some ((), S3) := by rw [← g24]; exact b1
  have gc : grc S2 (some R) 4 = true := grc_o i2
  have lc := l3.cl
  rw [a21] at lc d1
  simp only [nwB_e, ← eR, ← e1, i1, bn_s, gc, gd_t, b1', k1, ob_s, lc, d1]
theorem eraseFilter {l : List RtV} (hN : (l.map (·.1)).Nodup) {q : RtV} (hi : l[l.findIdx fun r => r.1 == n]? = some q) (hq : q.1 = n) : l.eraseIdx (l.findIdx fun r => r.1 == n) = l.filter fun r => !(r.1 == n) := by
  induction l with
  | nil => simp at hi
  | cons z l ih =>
    simp only [List.map_cons, List.nodup_cons] at hN
    by_cases e : z.1 = n
    · have : ((z :: l).findIdx fun r => r.1 == n) = 0 := by simp [List.findIdx_cons, e]
      rw [this]
      simp only [List.eraseIdx_cons_zero, List.filter_cons, e, beq_self_eq_true, Bool.not_true, Bool.false_eq_true, if_false]
      refine (List.filter_eq_self.mpr fun y hy => ?_).symm
      have : y.1 ≠ n := fun h => hN.1 (List.mem_map.mpr ⟨y, hy, by rw [h, e]⟩)
      simp [this]
    · have e1 : ((z :: l).findIdx fun r => r.1 == n) = (l.findIdx fun r => r.1 == n) + 1 := by simp [List.findIdx_cons, beq_false_of_ne e]
      rw [e1] at hi ⊢
      simp only [List.eraseIdx_cons_succ, List.filter_cons, beq_false_of_ne e, Bool.not_false, if_true]
      rw [ih hN.2 (by simpa using hi)]
end
