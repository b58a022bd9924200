/-! the keeper's work: next, cost, perform, hear -/
section
variable {S S' S1 : St} {g g' : GA} {T U : List Nat} {n m b c x y t i j d : Nat} {f f' : Fl} {rs : List RtV} {en : En} {o : Nat → Option Nat} {ac : List AcV} {sg : List SgV} {w : Int64} {nm : Nm} {s : Sg} {rk : Nat → Nat} {k p : Nat} {e : EnV} {a : AcV}
theorem no_so {α : Type} (o : Option α) : o.isNone = !o.isSome := by cases o <;> rfl
theorem k_next (hn : RKn g nm S) (h : RKa g ac S) (hF : FR g S) (h6 : ac.length ≤ 60) : ∃ S', n_X1_next S (some (g.2 1 0)) = some ((ac.find? fun a => !a.2.2).map fun a => g.2 11 a.1, S') ∧ KX [0] [] 1 g S g S' := by
  obtain ⟨S0, i1, i2, i3⟩ := ac_it h hF h6
  have how : (g.1 S.2.1).1 = 0 := hF _ (Nat.le_refl _)
  have key := it_find (g := g) (fun a : AcV => !a.2.2) (fun m S0 => n_X1_next_b8 m S0 (some S.2.1)) (fun a S => some (some (g.2 11 a.1), S)) (fun S => some (none, S)) i2 how ?_ ?_
  · have e : n_X1_next S (some (g.2 1 0)) = n_X1_next_b8 FU S0 (some S.2.1) := by
      simp only [n_X1_next, kn_3 hn, ob_s, h.1.cl, gd_t, i1, bn_s]
    rw [e]
    rcases key with ⟨S', r, -, k2, k3, -, k5⟩ | ⟨S', k2, k3, -, k5⟩
    · exact ⟨S', by rw [k5, k2]; rfl, KX_tr i3 k3⟩
    · exact ⟨S', by rw [k5, k2]; rfl, KX_tr i3 k3⟩
  · intro m S1 hit hx
    simp only [n_X1_next_b8, hit.cl, gd_t, hit.has_end, bn_s, if_true]
  · intro m S1 S2 i r hr hit hx n1 n2 hx2
    have hm := List.mem_of_getElem? hr
    have x2 := KX_tr i3 hx2
    have h2 := h.kx x2
    simp only [n_X1_next_b8, hit.cl, gd_t, hit.has_lt hr, bn_s, i10, if_false, n1, gcst_g (h2.cl hm), ob_s, b2i_0, ac_2 h2 hm]
    rcases Bool.eq_false_or_eq_true r.2.2 with b1 | b1 <;> simp [b1]
theorem k_cost (h : RK g s S) (hI : IW s rk) (hm : a ∈ zA s) : ∃ S', n_X1_costOf S (some (g.2 1 0)) (some (g.2 11 a.1)) = some (nI (cosA s a), S') ∧ KX [0] [] 1 g S g S' := by
  obtain ⟨A, h6, hT, hN, hB, hE, hF, hS, hF1, hE0, hW⟩ := hI
  obtain ⟨h1, h2, h3, h4, h5, h6', h7, h8⟩ := h
  have hk := hB.2 a hm
  obtain ⟨S1, q1, q2⟩ := k_above h1 h2 h3 h8 A hT.toS hk
  have n1 := h1.kx q2
  have f1 := h2.kx q2
  have e1 := h4.kx q2
  have hl := (hF a.1 hk).2
  have hab : ((abv (zF s) (zR s) a.1).map (g.2 4) = none) = ((abv (zF s) (zR s) a.1).isSome = false) := by
    cases abv (zF s) (zR s) a.1 <;> simp
  have one : ∀ S2, n_X1_costOf_b69 S2 (some (g.2 2 a.1)) = some (1, S2) := fun S2 => by
    simp only [n_X1_costOf_b69, n_X1_costOf_b70, if_true, rt_i, id]
  have many : n_X1_costOf_b65 S1 (some (g.2 2 a.1)) = some (nI (1 + (fMk (zF s) a.1).length), S1) := by
    simp only [n_X1_costOf_b65, n_X1_costOf_b70, i10, if_false, nd_5 f1 hk, ob_s, (f1.2.2 a.1 hk).2.1.cl, gd_t, al_size (f1.2.2 a.1 hk).2.1, bn_s, List.length_map, rt_i, id]
    rw [li_1, nI_add]
  have c1 : ∀ {b : Bool}, b = false → (if b = true then 1 + (fMk (zF s) a.1).length else 1) = 1 := fun {b} hb => by rw [hb]; rfl
  simp only [n_X1_costOf, ac_0 h5 hm, ac_1 h5 hm, ob_s, b2i_0, nd_1 h2 hk, nd_6 h2 hk, h1.cl, gd_t, q1, bn_s, hab, kn_2 n1, nd_0 f1 hk, en_get e1 (show a.1 < 60 by omega)]
  have z0 : ∃ S', some ((1 : Int32), S) = some ((nI 1 : Int32), S') ∧ KX [0] [] 1 g S g S' := ⟨S, by rw [← li_1], KX_n (KX_rf (by decide)) (by omega)⟩
  have z1 : ∃ S', some ((1 : Int32), S1) = some ((nI 1 : Int32), S') ∧ KX [0] [] 1 g S g S' := ⟨S1, by rw [← li_1], q2⟩
  unfold cosA
  rcases Bool.eq_false_or_eq_true a.2.1 with b1 | b1
  · rw [c1 (by simp [b1]), if_neg (by rw [b1]; decide), one]; exact z0
  · rw [if_pos b1]
    rcases Bool.eq_false_or_eq_true (fFo (zF s) a.1) with b2 | b2
    · rw [c1 (by simp [b2]), if_neg (by rw [b2]; decide), one]; exact z0
    · rw [if_pos b2]
      rcases Bool.eq_false_or_eq_true (fLk (zF s) a.1) with b3 | b3
      · rw [c1 (by simp [b3]), if_neg (by rw [b3]; decide), one]; exact z0
      · rw [if_pos b3]
        rcases Bool.eq_false_or_eq_true (abv (zF s) (zR s) a.1).isSome with b4 | b4
        · rw [if_neg (by rw [b4]; decide)]
          rcases Bool.eq_false_or_eq_true (zE s a.1).isSome with b5 | b5
          · obtain ⟨ev, hev⟩ := Option.isSome_iff_exists.mp b5
            have hed : eEd (zE s) a.1 = ev.2.2.1 := by unfold eEd; rw [hev]
            have l1 := (hE a.1 ev hev).2.2.1
            have l2 := (hF a.1 hk).1
            simp only [b5, if_true, reduceCtorEq, if_false, en_3 e1 hev, nd_4 f1 hk, ob_s, nI_eqE (show ev.2.2.1 < 2 ^ 31 by omega) (show fEd (zF s) a.1 < 2 ^ 31 by omega)]
            by_cases ee : ev.2.2.1 = fEd (zF s) a.1
            · rw [if_pos ee, c1 (by simp [hev, hed, ee]), one]; exact z1
            · rw [if_neg ee, many, if_pos (by simp [b1, b2, b3, b4, hed, ee])]
              exact ⟨S1, rfl, q2⟩
          · simp only [b5, Bool.false_eq_true, if_false, if_true]
            have hn : (zE s a.1).isNone = true := by rw [no_so, b5]; rfl
            rw [many, if_pos (by simp [b1, b2, b3, b4, hn])]
            exact ⟨S1, rfl, q2⟩
        · rw [if_pos b4, c1 (by simp [b4]), one]; exact z1
theorem perf_ge (s : Sg) (a : AcV) : (zA s).length ≤ (zA (perf s a)).length := by
  unfold perf
  split
  · exact Nat.le_refl _
  · split
    · exact adA_ge _ _ _
    · split
      · show _ ≤ (zA s ++ [(a.1, false, true)]).length
        simp
      · unfold look
        show _ ≤ (if fFo (zF s) a.1 = true then lokA (zF s) a.1 (zA s) (fMd (zF s)) else zA s).length
        split
        · exact lokA_ge _ _ _ _
        · exact Nat.le_refl _
theorem k_perf (h : RK g s S) (hI : IW s rk) (hU : LU (zS s)) (hsm : ∀ k, k < fMd (zF s) → ∀ m ∈ fMk (zF s) k, Sm m) (h40 : N40 g) (hX : S.1 (g.2 11 a.1) = some (acC g a)) (hXo : g.1 (g.2 11 a.1) = (11, a.1)) (hno : ∀ z ∈ zA s, z.1 ≠ a.1) (hk : a.1 < fMd (zF s)) : ∃ S' g', n_X1_perform S (some (g.2 1 0)) (some (g.2 11 a.1)) = some ((), S') ∧ KX TT UU (cosA s a * (fMd (zF s) + 13) + 2 * ((zA (perf s a)).length - (zA s).length) + 64 * (if (abv (zF s) (zR s) a.1).isNone then cE (zE s) else 0)) g S g' S' ∧ N40 g' ∧ RK g' (perf s a) S' := by
  have H := h
  have hI0 := hI
  obtain ⟨A, h6, hT, hN, hB, hE, hF, hS, hF1, hE0, hW⟩ := hI
  obtain ⟨h1, h2, h3, h4, h5, h6', h7, h8⟩ := h
  obtain ⟨S1, q1, q2⟩ := k_above h1 h2 h3 h8 A hT.toS hk
  have H1 : RK g s S1 := H.kx0 q2
  have n1 := H1.1
  have f1 := H1.2.1
  have X1 : S1.1 (g.2 11 a.1) = some (acC g a) := by rw [q2.at1 hXo (by decide)]; exact hX
  have hab : ((abv (zF s) (zR s) a.1).map (g.2 4) = none) = ((abv (zF s) (zR s) a.1).isNone = true) := by
    cases abv (zF s) (zR s) a.1 <;> simp
  have a0 : gR S (some (g.2 11 a.1)) 3 0 = some (some (g.2 2 a.1)) := by rw [gR_e hX]; rfl
  have a1 : gI S1 (some (g.2 11 a.1)) 3 1 = some (b2i a.2.1) := by rw [gI_e X1]; rfl
  have c0 : 1 * (fMd (zF s) + 13) ≤ cosA s a * (fMd (zF s) + 13) := Nat.mul_le_mul_right _ (by unfold cosA; split <;> omega)
  simp only [n_X1_perform, a0, ob_s, h1.cl, gd_t, q1, bn_s, hab]
  rcases Bool.eq_false_or_eq_true (abv (zF s) (zR s) a.1).isNone with b0 | b0
  · have ep : perf s a = drop s a.1 := by unfold perf; rw [if_pos b0]
    rw [if_pos b0, ep]
    obtain ⟨S2, g2, r1, r2, r3, r4, r5⟩ := k_drop H1 hI0 hU h40 hk
    simp only [n_X1_perform_b18, if_true, n1.cl, gd_t, r1, bn_s, b0]
    exact ⟨S2, g2, rfl, KX_n (KX_tr (KX_all q2 (Nat.le_refl _)) (KX_all r2 (Nat.le_refl _))) (by omega), r4, r5⟩
  · rw [if_neg (by rw [b0]; decide)]
    have bs : (abv (zF s) (zR s) a.1).isSome = true := by
      rw [no_so] at b0
      simpa using b0
    -- finishing
    have fin : ∀ (S2 : St) (g2 : GA) (c : Nat), KX TT UU c g S1 g2 S2 → RK g2 (perf s a) S2 → c + 1 ≤ cosA s a * (fMd (zF s) + 13) + 2 * ((zA (perf s a)).length - (zA s).length) → ∃ S' g', some ((), S2) = some ((), S') ∧ KX TT UU (cosA s a * (fMd (zF s) + 13) + 2 * ((zA (perf s a)).length - (zA s).length) + 64 * (if false = true then cE (zE s) else 0)) g S g' S' ∧ N40 g' ∧ RK g' (perf s a) S' := fun S2 g2 c hx hr hc => ⟨S2, un40 g2, rfl, KX_un h40 (KX_n (KX_tr (KX_all q2 (Nat.le_refl _)) hx) (by omega)), un_N g2, RK_un hr⟩
    simp only [n_X1_perform_b18, i10, if_false, a1, ob_s, b2i_0, nd_1 f1 hk, nd_6 f1 hk, n1.cl, gd_t, b0]
    rcases Bool.eq_false_or_eq_true a.2.1 with b1 | b1
    · rw [if_neg (by rw [b1]; decide)]
      have ep : perf s a = wA s (adA (zA s) a.1 false) := by unfold perf; rw [if_neg (by rw [b0]; decide), if_pos b1]
      obtain ⟨S2, g2, r1, r2, r3, r4⟩ := k_add n1 f1 H1.2.2.2.2.1 H1.2.2.2.2.2.2.2.2.2.2 hB h6 hk false
      rw [show n_X1_add S1 (some (g.2 1 0)) (some (g.2 2 a.1)) 0 = some ((), S2) from r1]
      refine fin S2 g2 _ (KX_all r2 (Nat.le_refl _)) ?_ ?_
      · rw [ep]
        exact ⟨n1.kx r2, f1.kx r2, H1.2.2.1.kx r2, H1.2.2.2.1.kx r2, r3, H1.2.2.2.2.2.1.kx r2, H1.2.2.2.2.2.2.1.kx r2, H1.2.2.2.2.2.2.2.kx r2 r4⟩
      · rw [ep]
        show 1 + 2 * ((adA (zA s) a.1 false).length - (zA s).length) + 1 ≤ cosA s a * (fMd (zF s) + 13) + 2 * ((adA (zA s) a.1 false).length - (zA s).length)
        omega
    · rw [if_pos b1]
      -- a look
      have look' : (!fFo (zF s) a.1 && fLk (zF s) a.1) = false → ∃ S' g', n_X1_perform_b77 S1 (some (g.2 1 0)) (some (g.2 2 a.1)) = some ((), S') ∧ KX TT UU (cosA s a * (fMd (zF s) + 13) + 2 * ((zA (perf s a)).length - (zA s).length) + 64 * (if false = true then cE (zE s) else 0)) g S g' S' ∧ N40 g' ∧ RK g' (perf s a) S' := by
        intro hc
        have ep : perf s a = look s a.1 := by
          unfold perf
          rw [if_neg (by rw [b0]; decide), if_neg (by rw [b1]; decide), if_neg (by rw [hc]; decide)]
        obtain ⟨S2, g2, r1, r2, r3⟩ := k_look H1 hI0 (hsm a.1 hk) h40 hk bs
        simp only [n_X1_perform_b77, n1.cl, gd_t, r1, bn_s]
        refine fin S2 g2 _ (KX_all r2 (Nat.le_refl _)) (by rw [ep]; exact r3) ?_
        rw [ep]
        split
        · omega
        · next hfo =>
          split
          · omega
          · next hed =>
            have hfo : fFo (zF s) a.1 = false := by simpa using hfo
            have hlk : fLk (zF s) a.1 = false := by simpa [hfo] using hc
            have hcos : cosA s a = 1 + (fMk (zF s) a.1).length := by
              unfold cosA
              rw [if_pos]
              simp [b1, hfo, hlk, bs, hed]
            have : (1 + (fMk (zF s) a.1).length) * 13 ≤ cosA s a * (fMd (zF s) + 13) := by
              rw [hcos]; exact Nat.mul_le_mul_left _ (by omega)
            omega
      rcases Bool.eq_false_or_eq_true (fFo (zF s) a.1) with b2 | b2
      · rw [if_neg (by rw [b2]; decide)]
        exact look' (by rw [b2]; rfl)
      · rw [if_pos b2]
        rcases Bool.eq_false_or_eq_true (fLk (zF s) a.1) with b3 | b3
        · rw [if_neg (by rw [b3]; decide)]
          have ep : perf s a = wA s (zA s ++ [(a.1, false, true)]) := by
            unfold perf
            rw [if_neg (by rw [b0]; decide), if_neg (by rw [b1]; decide), if_pos (by rw [b2, b3]; rfl)]
          obtain ⟨S2, e2⟩ : ∃ S2, S2 = sup S1 (g.2 11 a.1) (acC g (a.1, false, true)) := ⟨_, rfl⟩
          have p2 : pI .boolean S1 (some (g.2 11 a.1)) 3 2 1 = some S2 := by
            simp only [pI, show gfit .boolean 1 = true by decide, if_true, pF_e (show S1.1 (g.2 11 a.1) = some (cO 3 [vR (some (g.2 2 a.1)), vI (b2i a.2.1), vI (b2i a.2.2)]) from X1)]
            rw [if_pos (by simp), e2]
            simp only [acC, b1]
            rfl
          have x2 : KX [0, 11] [] 0 g S1 g S2 := by rw [e2]; exact KX_ch1 (Ch_sup _) hXo
          obtain ⟨m1, m2, m3⟩ := H1.2.2.2.2.1
          have ne : g.2 23 0 ≠ g.2 11 a.1 := fun z => by rw [z, hXo] at m2; cases m2
          have ll2 : isLL S2 (g.2 23 0) ((zA s).map fun a => some (g.2 11 a.1)) := m1.fr (x2.at1 m2 (by decide))
          obtain ⟨S3, r1, r2, r3⟩ := ll_addLast ll2 (some (g.2 11 a.1))
          have x3 : KX [0, 11, 23] [] 1 g S1 g S3 := KX_n (KX_tr (KX_up x2 (by decide) (by decide) (Nat.le_refl _)) (KX_ch1 r3 m2)) (by decide)
          simp only [p2, ob_s, kn_3 (n1.kx x2), ll2.cl, gd_t, r1, bn_s]
          refine fin S3 g 1 (KX_all x3 (Nat.le_refl _)) ?_ (by omega)
          rw [ep]
          refine ⟨n1.kx x3, f1.kx x3, H1.2.2.1.kx x3, H1.2.2.2.1.kx x3, ⟨?_, m2, fun z hz => ?_⟩, H1.2.2.2.2.2.1.kx x3, H1.2.2.2.2.2.2.1.kx x3, H1.2.2.2.2.2.2.2.kx x3 (FR_sm H1.2.2.2.2.2.2.2.2.2.2 x3.le)⟩
          · show isLL S3 (g.2 23 0) ((zA s ++ [(a.1, false, true)]).map fun a => some (g.2 11 a.1))
            rw [List.map_append]; exact r2
          · have hz : z ∈ zA s ++ [(a.1, false, true)] := hz
            rcases List.mem_append.mp hz with hz | hz
            · obtain ⟨u1, u2⟩ := m3 z hz
              refine ⟨?_, u2⟩
              rw [r3.1 _ (fun e => by rw [e, m2] at u2; cases u2), e2, sup_ne _ _ (fun e => ?_)]
              · exact u1
              · rw [e, hXo] at u2; exact hno z hz (congrArg (·.2) u2).symm
            · have : z = (a.1, false, true) := by simpa using hz
              subst this
              refine ⟨?_, hXo⟩
              show S3.1 (g.2 11 a.1) = _
              rw [r3.1 _ (Ne.symm ne), e2]; exact sup_at _ _ _
        · rw [if_pos b3]
          exact look' (by rw [b2, b3]; rfl)
end
