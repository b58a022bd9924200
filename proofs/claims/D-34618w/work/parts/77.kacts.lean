/-! the keeper's acts -/
/-- another address -/
def adS (g : GA) (t i x : Nat) : GA := (g.1, fun t' i' => if t' = t ∧ i' = i then x else g.2 t' i')
section
variable {S S' S1 : St} {g g' : GA} {T U : List Nat} {n m a b c x y t i : Nat} {f f' : Fl} {rs : List RtV} {en : En} {o : Nat → Option Nat} {ac : List AcV} {sg : List SgV} {w : Int64} {nm : Nm} {s : Sg} {rk : Nat → Nat} {k p : Nat}
theorem adS_o (x : Nat) {t' : Nat} (h : t' ≠ t) : (adS g t i x).2 t' = g.2 t' := by funext j; simp [adS, h]
theorem adS_n (t' x : Nat) {j : Nat} (h : j ≠ i) : (adS g t i x).2 t' j = g.2 t' j := by simp [adS, h]
theorem adS_s (x : Nat) : (adS g t i x).2 t i = x := by simp [adS]
theorem KX_adS (h0 : 0 ∈ T) (ht : t ∈ U) (i x : Nat) : KX T U 0 g S (adS g t i x) S := ⟨h0, fun _ _ => rfl, fun _ _ => rfl, fun t' ht' => adS_o x (fun e => ht' (e ▸ ht)), Nat.le_refl _, Nat.le_refl _, Nat.le_refl _, rfl⟩
theorem RKa.cl (h : RKa g ac S) {z : AcV} (hz : z ∈ ac) : grc S (some (g.2 11 z.1)) 3 = true := grc_o (h.2.2 z hz).1
theorem ac_0 (h : RKa g ac S) {z : AcV} (hz : z ∈ ac) : gR S (some (g.2 11 z.1)) 3 0 = some (some (g.2 2 z.1)) := by rw [gR_e (h.2.2 z hz).1]; rfl
theorem ac_1 (h : RKa g ac S) {z : AcV} (hz : z ∈ ac) : gI S (some (g.2 11 z.1)) 3 1 = some (b2i z.2.1) := by rw [gI_e (h.2.2 z hz).1]; rfl
theorem ac_2 (h : RKa g ac S) {z : AcV} (hz : z ∈ ac) : gI S (some (g.2 11 z.1)) 3 2 = some (b2i z.2.2) := by rw [gI_e (h.2.2 z hz).1]; rfl
/-- an iterator over the acts -/
theorem ac_it (h : RKa g ac S) (hF : FR g S) (h3 : ac.length ≤ 60) : ∃ S', h_J3_iterator S (some (g.2 23 0)) = some (some S.2.1, S') ∧ IT S' S.2.1 (g.2 23 0) (ac.map fun r => some (g.2 11 r.1)) 0 ∧ KX [0] [] 1 g S g S' := by
  obtain ⟨S', h1, h2, h4⟩ := ll_it h.1 (by rw [List.length_map]; omega) (ow_lt hF h.2.1 (by decide))
  exact ⟨S', h1, h2, KX_new hF h4 (by decide)⟩
/-- the cells of acts change -/
theorem RKa_map (h : RKa g ac S) (up : AcV → AcV) (hup : ∀ z, (up z).1 = z.1) (hS : S'.1 (g.2 23 0) = S.1 (g.2 23 0)) (hc : ∀ z ∈ ac, S'.1 (g.2 11 z.1) = some (acC g (up z))) : RKa g (ac.map up) S' := by
  obtain ⟨h1, h2, h3⟩ := h
  refine ⟨?_, h2, fun z hz => ?_⟩
  · have e : (ac.map up).map (fun a => some (g.2 11 a.1)) = ac.map fun a => some (g.2 11 a.1) := by
      rw [List.map_map]
      exact List.map_congr_left fun z _ => by simp only [Function.comp, hup]
    rw [e]; exact h1.fr hS
  · obtain ⟨z0, hz0, rfl⟩ := List.mem_map.mp hz
    rw [hup]
    exact ⟨hc z0 hz0, (h3 z0 hz0).2⟩
theorem k_acInit {x1 : TV} (h : S.1 a = some (cO 3 [x1, vI 0, vI 0])) (u : Option Nat) (d : Bool) : n_X5_init S (some a) u (b2i d) = some ((), sup S a (cO 3 [vR u, vI (b2i d), vI 0])) := by
  have h1 : (sup S a (cO 3 [vR u, vI 0, vI 0])).1 a = some (cO 3 [vR u, vI 0, vI 0]) := sup_at _ _ _
  simp only [n_X5_init, Option.isSome_some, gd_t, pR_e h]
  rw [if_pos (by simp)]
  simp only [ob_s, List.set_cons_zero, pI, fit_b, if_true, pF_e h1]
  rw [if_pos (by simp)]
  simp only [ob_s, List.set_cons_succ, List.set_cons_zero, sup_sup]
/-- a new act at the end -/
theorem k_acNew {b1 b2 : Bool} (h : RKa g ac S) (hF : FR g S) (hno : ∀ z ∈ ac, z.1 ≠ n) {X : Nat} (hX : S.1 X = some (acC g (n, b1, b2))) (hX0 : (g.1 X).1 = 0) (hXl : X < S.2.1) : ∃ S' g', h_J4_addLast S (some (g.2 23 0)) (some X) = some ((), S') ∧ KX [0, 11, 23] [11] 1 g S g' S' ∧ RKa g' (ac ++ [(n, b1, b2)]) S' ∧ FR g' S' := by
  obtain ⟨h1, h2, h3⟩ := h
  obtain ⟨S2, a1, a2, a3⟩ := ll_addLast h1 (some X)
  have ne : ∀ {z t i}, g.1 z = (t, i) → t ≠ 0 → z ≠ X := fun {z t i} hz ht e => by rw [e] at hz; rw [hz] at hX0; exact ht hX0
  have n23 := ne h2 (by decide)
  have F2 : FR (newO (adS g 11 n X) X 11 n) S2 := FR_own (g := adS g 11 n X) (fun b hb => hF b (by have := a3.2.1; omega)) (by have := a3.2.1; omega) _ _
  refine ⟨S2, newO (adS g 11 n X) X 11 n, a1, ?_, ⟨?_, ?_, fun z hz => ?_⟩, F2⟩
  · exact KX_n (KX_tr (KX_tr (KX_ch1 a3 h2) (KX_adS (by decide) (by decide) n X)) (KX_own (g := adS g 11 n X) hX0 11 n (by decide))) (by decide)
  · rw [newO_2, adS_o X (show (23 : Nat) ≠ 11 by decide), List.map_append]
    have e : (ac.map fun a => some ((adS g 11 n X).2 11 a.1)) = ac.map fun a => some (g.2 11 a.1) := List.map_congr_left fun z hz => by rw [adS_n 11 X (hno z hz)]
    rw [e]
    simp only [List.map_cons, List.map_nil, adS_s]
    exact a2
  · rw [newO_2, adS_o X (show (23 : Nat) ≠ 11 by decide), newO_1, if_neg n23]; exact h2
  · have hc2 : ∀ z : AcV, acC (newO (adS g 11 n X) X 11 n) z = acC g z := fun z => by simp only [acC, newO_2, adS_o X (show (2 : Nat) ≠ 11 by decide)]
    rw [hc2, newO_2, newO_1]
    rcases List.mem_append.mp hz with hz | hz
    · obtain ⟨k1, k2⟩ := h3 z hz
      rw [adS_n 11 X (hno z hz), if_neg (ne k2 (by decide))]
      exact ⟨by rw [a3.1 _ (fun e => by rw [e, h2] at k2; cases k2)]; exact k1, k2⟩
    · have : z = (n, b1, b2) := by simpa using hz
      subst this
      rw [adS_s, if_pos rfl]
      exact ⟨by rw [a3.1 _ (Ne.symm n23)]; exact hX, rfl⟩
theorem k_add (hn : RKn g nm S) (hf : RKf g f S) (h : RKa g ac S) (hF : FR g S) (hB : AB f ac) (h6 : fMd f ≤ 60) (hk : n < fMd f) (d : Bool) : ∃ S' g', n_X1_add S (some (g.2 1 0)) (some (g.2 2 n)) (b2i d) = some ((), S') ∧ KX [0, 11, 23] [11] (1 + 2 * ((adA ac n d).length - ac.length)) g S g' S' ∧ RKa g' (adA ac n d) S' ∧ FR g' S' := by
  have hl := hB.len h6
  obtain ⟨S0, i1, i2, i3⟩ := ac_it h hF hl
  have how : (g.1 S.2.1).1 = 0 := hF _ (Nat.le_refl _)
  obtain ⟨it, eit⟩ : ∃ it, it = S.2.1 := ⟨_, rfl⟩
  rw [← eit] at i1 i2 how
  have es : n_X1_add S (some (g.2 1 0)) (some (g.2 2 n)) (b2i d) = n_X1_add_b8 FU S0 (some (g.2 1 0)) (some (g.2 2 n)) (b2i d) (some it) := by
    simp only [n_X1_add, kn_3 hn, ob_s, h.1.cl, gd_t, i1, bn_s]
  rw [es]
  have key := it_find (g := g) (fun z : AcV => z.1 == n) (fun m S0 => n_X1_add_b8 m S0 (some (g.2 1 0)) (some (g.2 2 n)) (b2i d) (some it)) (fun z S => (pI .boolean S (some (g.2 11 z.1)) 3 1 (b2i d)).bind fun S13 => some ((), S13)) (fun S => (gR S (some (g.2 1 0)) 0 3).bind fun v3 => nwB S (cO 3 [vR none, vI 0, vI 0]) 3 fun q4 S5 => gd (q4).isSome <| bn (n_X5_init S5 q4 (some (g.2 2 n)) (b2i d)) fun _ S6 => gd (grc S6 v3 9) <| bn (h_J4_addLast S6 v3 q4) fun _ S8 => some ((), S8)) i2 how ?_ ?_
  · rcases key with ⟨S2, z, j1, j2, j3, -, j5⟩ | ⟨S2, j2, j3, -, j5⟩
    · have hz := List.mem_of_getElem? j1
      have hzn : z.1 = n := by have := List.find?_some j2; simpa using this
      have x2 := KX_tr i3 j3
      have h2 := h.kx x2
      obtain ⟨S3, e3⟩ : ∃ S3, S3 = sup S2 (g.2 11 z.1) (acC g (z.1, d, z.2.2)) := ⟨_, rfl⟩
      have p3 : pI .boolean S2 (some (g.2 11 z.1)) 3 1 (b2i d) = some S3 := by
        simp only [pI, fit_b, if_true, pF_e (h2.2.2 z hz).1]
        rw [if_pos (by simp), e3]; rfl
      have hany : (ac.any fun a => a.1 == n) = true := List.any_eq_true.mpr ⟨z, hz, by simp [hzn]⟩
      have ea : adA ac n d = ac.map fun a => if a.1 = n then (n, d, a.2.2) else a := by unfold adA; rw [if_pos hany]
      have x3 : KX [0, 11, 23] [11] 0 g S2 g S3 := by rw [e3]; exact KX_ch1 (Ch_sup _) (h2.2.2 z hz).2
      refine ⟨S3, g, by rw [j5, p3, ob_s], KX_n (KX_tr (KX_up x2 (by decide) (by decide) (Nat.le_refl _)) x3) (by omega), ?_, FR_sm hF (Nat.le_trans x2.le x3.le)⟩
      rw [ea]
      refine RKa_map h2 (fun a => if a.1 = n then (n, d, a.2.2) else a) (fun y => by split <;> simp_all) ?_ (fun y hy => ?_)
      · rw [e3, sup_ne]
        intro e
        have q1 := h2.2.1
        rw [e, (h2.2.2 z hz).2] at q1
        cases q1
      · by_cases e : y.1 = n
        · have hyz : y = z := by
            obtain ⟨i, hi⟩ := List.mem_iff_getElem?.mp hy
            obtain ⟨j, hj⟩ := List.mem_iff_getElem?.mp hz
            have := hB.inj hi hj (e.trans hzn.symm)
            subst this
            rw [hi] at hj; cases hj; rfl
          subst hyz
          rw [e3, sup_at]
          simp only [e, if_true]
        · rw [if_neg e, e3, sup_ne _ _ (fun e2 => ?_)]
          · exact (h2.2.2 y hy).1
          · have q1 := (h2.2.2 y hy).2
            rw [e2, (h2.2.2 z hz).2] at q1
            exact e ((congrArg (·.2) q1).symm.trans hzn)
    · have x2 := KX_tr i3 j3
      have h2 := h.kx x2
      have n2 := hn.kx x2
      have F2 := FR_sm hF x2.le
      have hno : ∀ z ∈ ac, z.1 ≠ n := fun z hz e => by
        have := List.find?_eq_none.mp j2 z hz
        simp [e] at this
      have hany : (ac.any fun a => a.1 == n) = false := by
        rw [List.any_eq_false]
        intro z hz
        simp [hno z hz]
      have ea : adA ac n d = ac ++ [(n, d, false)] := by unfold adA; rw [hany]; rfl
      obtain ⟨X, eX⟩ : ∃ X, X = S2.2.1 := ⟨_, rfl⟩
      have hX0 : (g.1 X).1 = 0 := F2 X (by omega)
      obtain ⟨S3, e3⟩ : ∃ S3, S3 = sup (spu S2 (cO 3 [vR none, vI 0, vI 0]) 3) X (cO 3 [vR (some (g.2 2 n)), vI (b2i d), vI 0]) := ⟨_, rfl⟩
      have ti := k_acInit (S := spu S2 (cO 3 [vR none, vI 0, vI 0]) 3) (a := X) (by rw [eX]; exact spu_at _ _ _) (some (g.2 2 n)) d
      rw [← e3] at ti
      have c3 : Ch X 1 S2 S3 := by rw [e3, eX]; exact Ch_n (Ch_tr (Ch_spu _ (c := 1) (by omega) (Nat.le_refl _)) (Ch_sup _)) (by decide)
      have x3 : KX [0] [] 1 g S2 g S3 := KX_ch c3 (by decide) (by rw [hX0]; decide)
      have h3 := h2.kx x3
      have hlt : X < S3.2.1 := by rw [e3, eX]; exact Nat.lt_succ_self _
      obtain ⟨S4, g4, a1, a2, a3, a4⟩ := k_acNew h3 (FR_sm F2 x3.le) hno (X := X) (b1 := d) (b2 := false) (by rw [e3]; exact sup_at _ _ _) hX0 hlt
      refine ⟨S4, g4, ?_, KX_n (KX_tr (KX_up (KX_tr x2 x3) (by decide) (by decide) (Nat.le_refl _)) a2) (by rw [ea]; simp), by rw [ea]; exact a3, a4⟩
      rw [j5]
      simp only [kn_3 n2, ob_s, nwB_e, ← eX, Option.isSome_some, gd_t, ti, bn_s, h3.1.cl, a1]
  · intro m S1 hit hx
    simp only [n_X1_add_b8, hit.cl, gd_t, hit.has_end, bn_s, if_true]
  · intro m S1 S2 i z hz hit hx n1 n2 hx2
    have hm := List.mem_of_getElem? hz
    have x2 := KX_tr i3 hx2
    have h2 := h.kx x2
    have hf2 := hf.kx x2
    simp only [n_X1_add_b8, hit.cl, gd_t, hit.has_lt hz, bn_s, i10, if_false, n1, gcst_g (h2.cl hm), ac_0 h2 hm, ob_s, nd_some hf2 (hB.2 z hm) hk]
    by_cases e : z.1 = n
    · simp [e]
    · simp [e, beq_false_of_ne e]
end
