/-! the keeper's work: a look, from the start -/
section
variable {S S' S1 : St} {g g' : GA} {T U : List Nat} {n m a b c x y t i j d : Nat} {f f' : Fl} {rs : List RtV} {en : En} {o : Nat → Option Nat} {ac : List AcV} {sg : List SgV} {w : Int64} {nm : Nm} {s : Sg} {rk : Nat → Nat} {k p : Nat} {e : EnV} {E A L : Nat} {dl most : Int32} {ms W : List Int32}
/-- an entry is in place -/
def plcS (s : Sg) (n p : Nat) : Sg := wE s (fu (zE s) n (some (p, fNm (zF s) n, eEd (zE s) n, eWd (zE s) n)))
theorem lkS_look (hp : fPa (zF s) n = some p) : lkS (plcS s n p) n (p, fNm (zF s) n, eEd (zE s) n, eWd (zE s) n) = look s n := by
  obtain ⟨f, rs, en, ac, sg, w, nm⟩ := s
  have hfu : ∀ (u v : Option EnV), fu (fu en n u) n v = fu en n v := fun u v => by
    funext j
    by_cases h : j = n
    · subst h; rw [fu_s, fu_s]
    · rw [fu_n _ _ h, fu_n _ _ h, fu_n _ _ h]
  have hp : fPa f n = some p := hp
  show (if fFo f n = true then ((f, rs, fu en n (some (p, fNm f n, eEd en n, eWd en n)), lokA f n ac (fMd f), sg, w, nm) : Sg) else if eEd en n = fEd f n then (f, rs, fu en n (some (p, fNm f n, eEd en n, eWd en n)), ac, sg, w, nm) else (f, rs, fu (fu en n (some (p, fNm f n, eEd en n, eWd en n))) n (some (p, fNm f n, fEd f n, takW nm (fMk f n))), ac, sg, w ||| bbit (nI n), nm)) = (f, rs, fu en n (some (lokE f nm en n)), if fFo f n then lokA f n ac (fMd f) else ac, sg, lokW f en w n, nm)
  rw [hfu]
  simp only [lokE, lokW, hp, Option.getD_some]
  rcases Bool.eq_false_or_eq_true (fFo f n) with b | b
  · simp [b]
  · by_cases ee : eEd en n = fEd f n
    · simp [b, ee]
    · simp [b, ee]
theorem k_plc (h : RK g s S) (hS : SS (zF s) (zE s) (zS s)) (h6 : fMd (zF s) ≤ 60) (hk : n < fMd (zF s)) (hp : fPa (zF s) n = some p) (hg : gfit .char (fNm (zF s) n) = true) : ∃ S' g', n_X1_look S (some (g.2 1 0)) (some (g.2 2 n)) = lkR S' (some (g'.2 1 0)) (some (g'.2 2 n)) (some (g'.2 9 n)) ∧ KX [0, 9, 22] [9, 10] 3 g S g' S' ∧ RK g' (plcS s n p) S' ∧ (N40 g → N40 g') := by
  obtain ⟨h1, h2, h3, h4, h5, h6', h7, h8⟩ := h
  have F := h8.2.2.2
  obtain ⟨⟨hh, q1, q2⟩, q3, q4⟩ := h4
  have h4 : RKe g (zE s) (sgO (zS s)) S := ⟨⟨hh, q1, q2⟩, q3, q4⟩
  have o1 := h1.2
  have o2 := (h2.2.2 n hk).2.2.1
  have n2 : g.2 2 n ≠ g.2 22 0 := fun z => by rw [z, q3] at o2; cases o2
  have eg := en_get h4 (show n < 60 by omega)
  cases he : zE s n with
  | some e =>
    obtain ⟨v1, v2, v3, v4⟩ := q4 n e he
    have ne : g.2 9 n ≠ g.2 22 0 := fun z => by rw [z, q3] at v3; cases v3
    have n1 : g.2 2 n ≠ g.2 9 n := fun z => by rw [z, v3] at o2; cases o2
    have n3 : g.2 1 0 ≠ g.2 9 n := fun z => by rw [z, v3] at o1; cases o1
    obtain ⟨S7, a1, a2, a3, a4, a5⟩ := k_put (E := g.2 9 n) h1 h2 q1 v1 ne n1 n2 n3 hk h6 hp hg
    have x7 : KX [0, 9, 22] [9, 10] 3 g S g S7 := ⟨by decide, fun a ha => a4 a (fun z => ha (by rw [z, v3]; simp)) (fun z => ha (by rw [z, q3]; simp)), fun _ _ => rfl, fun _ _ => rfl, by rw [a5]; exact Nat.le_refl _, by rw [a5]; omega, by rw [a5]; omega, by rw [a5]⟩
    have y7 : KX [0, 9, 22] [] 3 g S g S7 := ⟨by decide, fun a ha => a4 a (fun z => ha (by rw [z, v3]; simp)) (fun z => ha (by rw [z, q3]; simp)), fun _ _ => rfl, fun _ _ => rfl, by rw [a5]; exact Nat.le_refl _, by rw [a5]; omega, by rw [a5]; omega, by rw [a5]⟩
    have bx : bxr S7 = bxr S := bxr_c y7.cs
    have ep : eEd (zE s) n = e.2.2.1 ∧ eWd (zE s) n = e.2.2.2 := by unfold eEd eWd; rw [he]; exact ⟨rfl, rfl⟩
    refine ⟨S7, g, ?_, x7, ⟨h1.kx y7, h2.kx y7, h3.kx y7, ⟨⟨updT hh n (vR (some (g.2 9 n))), a2, fun j hj => ?_⟩, q3, fun j ej hej => ?_⟩, h5.kx y7, h6'.kx y7, h7.kx y7, h8.kx y7 (FR_sm F y7.le)⟩, fun z => z⟩
    · simp only [n_X1_look, kn_2 h1, nd_0 h2 hk, ob_s, eg, he, Option.isSome_some, if_true, reduceCtorEq, if_false, a1]
    · show updT hh n (vR (some (g.2 9 n))) j = vR (if (fu (zE s) n (some (p, fNm (zF s) n, eEd (zE s) n, eWd (zE s) n)) j).isSome then some (g.2 9 j) else none)
      unfold updT
      by_cases ej : j = n
      · subst ej; rw [if_pos rfl, fu_s]; rfl
      · rw [if_neg ej, fu_n _ _ ej]; exact q2 j hj
    · have hej : fu (zE s) n (some (p, fNm (zF s) n, eEd (zE s) n, eWd (zE s) n)) j = some ej := hej
      by_cases ejn : j = n
      · subst ejn
        rw [fu_s] at hej
        cases hej
        refine ⟨?_, ?_, v3, v4⟩
        · rw [a3, ep.1]; rfl
        · rw [ep.2, bx]
          exact v2.fr (y7.at1 v4 (by decide))
      · rw [fu_n _ _ ejn] at hej
        obtain ⟨w1, w2, w3, w4⟩ := q4 j ej hej
        refine ⟨?_, ?_, w3, w4⟩
        · rw [a4 _ (fun z => by rw [z, v3] at w3; exact ejn (congrArg (·.2) w3).symm) (fun z => by rw [z, q3] at w3; cases w3)]; exact w1
        · rw [bx]; exact w2.fr (y7.at1 w4 (by decide))
  | none =>
    obtain ⟨E, eE⟩ : ∃ E, E = S.2.1 := ⟨_, rfl⟩
    have hE0 : (g.1 E).1 = 0 := F E (by omega)
    have ne : ∀ {z t i}, g.1 z = (t, i) → t ≠ 0 → z ≠ E := fun {z t i} hz ht e => by rw [e] at hz; rw [hz] at hE0; exact ht hE0
    obtain ⟨S8, e8⟩ : ∃ S8, S8 = spu S (cO 5 [vR none, vR none, vI 0, vI 0, vR none, vR none]) 6 := ⟨_, rfl⟩
    have c8 : Ch E 2 S S8 := by rw [e8, eE]; exact Ch_spu _ (by omega) (by omega)
    have b8 : S8.1 E = some (cO 5 [vR none, vR none, vI 0, vI 0, vR none, vR none]) := by rw [e8, eE]; exact spu_at _ _ _
    have l8 : E < S8.2.1 := by rw [e8, eE]; exact Nat.lt_succ_self _
    obtain ⟨L, eL⟩ : ∃ L, L = S8.2.1 := ⟨_, rfl⟩
    have hL0 : (g.1 L).1 = 0 := F L (by have := c8.2.1; omega)
    have nEL : E ≠ L := by omega
    have neL : ∀ {z t i}, g.1 z = (t, i) → t ≠ 0 → z ≠ L := fun {z t i} hz ht e => by rw [e] at hz; rw [hz] at hL0; exact ht hL0
    obtain ⟨S9, i1, i2, i3, i4⟩ := al_init0 (S := spu S8 (cO 8 [vI 0, vR none, vI 0]) 3) (a := L) (by rw [eL]; exact spu_at _ _ _) rfl
    have c9 : Ch L 1 S8 S9 := by rw [eL] at i4 ⊢; exact Ch_n (Ch_tr (Ch_spu _ (c := 1) (by omega) (by omega)) i4) (by omega)
    have l9 : L < S9.2.1 := Nat.lt_of_lt_of_le (by rw [eL]; exact Nat.lt_succ_self _) i4.2.1
    have b9 : S9.1 E = some (cO 5 [vR none, vR none, vI 0, vI 0, vR none, vR none]) := by rw [c9.1 _ nEL]; exact b8
    obtain ⟨T1, e1⟩ : ∃ T1, T1 = sup S9 E (cO 5 [vR none, vR none, vI 0, vI 0, vR (some L), vR none]) := ⟨_, rfl⟩
    have t1 : T1.1 E = some (cO 5 [vR none, vR none, vI 0, vI 0, vR (some L), vR none]) := by rw [e1]; exact sup_at _ _ _
    have p1 : pR S9 (some E) 5 4 (some L) = some T1 := by rw [e1, pR_e b9, if_pos (by simp)]; rfl
    obtain ⟨T2, e2⟩ : ∃ T2, T2 = sup T1 E (cO 5 [vR (some (g.2 2 n)), vR none, vI 0, vI 0, vR (some L), vR none]) := ⟨_, rfl⟩
    have t2 : T2.1 E = some (cO 5 [vR (some (g.2 2 n)), vR none, vI 0, vI 0, vR (some L), vR none]) := by rw [e2]; exact sup_at _ _ _
    have p2 : pR T1 (some E) 5 0 (some (g.2 2 n)) = some T2 := by rw [e2, pR_e t1, if_pos (by simp)]; rfl
    have cT : Ch E 0 S9 T2 := by
      have z1 : Ch E 0 S9 T1 := by rw [e1]; exact Ch_sup _
      have z2 : Ch E 0 T1 T2 := by rw [e2]; exact Ch_sup _
      exact Ch_n (Ch_tr z1 z2) (by omega)
    have xT : KX [0] [] 3 g S g T2 := KX_n (KX_tr (KX_tr (KX_ch c8 (by decide) (by rw [hE0]; decide)) (KX_ch c9 (by decide) (by rw [hL0]; decide))) (KX_ch cT (by decide) (by rw [hE0]; decide))) (by omega)
    have nE22 := ne q3 (by decide)
    have qT : T2.1 (g.2 22 0) = some (cA 5 60 hh) := (xT.at1 q3 (by decide)).trans q1
    obtain ⟨S7, a1, a2, a3, a4, a5⟩ := k_put (E := E) (h1.kx xT) (h2.kx xT) qT t2 (Ne.symm nE22) (ne o2 (by decide)) n2 (ne o1 (by decide)) hk h6 hp hg
    have x7 : KX [0, 22] [] 0 g T2 g S7 := ⟨by decide, fun a ha => a4 a (fun z => ha (by rw [z, hE0]; decide)) (fun z => ha (by rw [z, q3]; simp)), fun _ _ => rfl, fun _ _ => rfl, by rw [a5]; exact Nat.le_refl _, by rw [a5]; omega, by rw [a5]; omega, by rw [a5]⟩
    have y7 : KX [0, 9, 22] [9, 10] 3 g S g S7 := KX_n (KX_tr (KX_up xT (by decide) (by decide) (Nat.le_refl _)) (KX_up x7 (by decide) (by decide) (Nat.le_refl _))) (by omega)
    obtain ⟨g', eg'⟩ : ∃ g', g' = newO (newO (adS (adS g 9 n E) 10 n L) E 9 n) L 10 n := ⟨_, rfl⟩
    have z7 : KX [0, 9, 22] [9, 10] 3 g S g' S7 := by
      rw [eg']
      exact KX_n (KX_tr (KX_tr (KX_tr (KX_tr y7 (KX_adS (by decide) (by decide) n E)) (KX_adS (by decide) (by decide) n L)) (KX_own (g := adS (adS g 9 n E) 10 n L) hE0 9 n (by decide))) (KX_own (g := newO (adS (adS g 9 n E) 10 n L) E 9 n) (by rw [newO_1, if_neg (Ne.symm nEL)]; exact hL0) 10 n (by decide))) (by omega)
    have l7 : L < S7.2.1 := by
      have := cT.2.1
      rw [a5]; omega
    have F' : FR g' S7 := by
      rw [eg']
      exact FR_own (g := newO (adS (adS g 9 n E) 10 n L) E 9 n) (FR_own (g := adS (adS g 9 n E) 10 n L) (FR_sm F y7.le) (by omega) _ _) l7 _ _
    have g2 : ∀ t, t ≠ 9 → t ≠ 10 → g'.2 t = g.2 t := fun t h9 h10 => by rw [eg', newO_2, newO_2, adS_o L h10, adS_o E h9]
    have g29 : g'.2 9 n = E := by rw [eg', newO_2, newO_2, adS_o L (by decide), adS_s]
    have g210 : g'.2 10 n = L := by rw [eg', newO_2, newO_2, adS_s]
    have g29n : ∀ j, j ≠ n → g'.2 9 j = g.2 9 j := fun j hj => by rw [eg', newO_2, newO_2, adS_o L (by decide), adS_n 9 E hj]
    have g210n : ∀ j, j ≠ n → g'.2 10 j = g.2 10 j := fun j hj => by rw [eg', newO_2, newO_2, adS_n 10 L hj, adS_o E (by decide)]
    have g1E : g'.1 E = (9, n) := by rw [eg', newO_1, if_neg nEL, newO_1, if_pos rfl]
    have g1L : g'.1 L = (10, n) := by rw [eg', newO_1, if_pos rfl]
    have oA : ∀ a, (g.1 a).1 ≠ 0 → a ≠ g.2 22 0 → S7.1 a = S.1 a := fun a h0 hb => by
      rw [a4 a (fun z => h0 (by rw [z]; exact hE0)) hb, xT.at (by simpa using h0)]
    have bx : bxr S7 = bxr S := bxr_c z7.cs
    have nliv : ∀ x ∈ zS s, (n, false) ∉ x.2 := fun x hx hp' => by
      have := ((hS.2 x hx).2 _ hp').2.2 rfl
      rw [he] at this; cases this
    have so : sgO (zS s) n = none := by
      cases hs : sgO (zS s) n with
      | none => rfl
      | some d => obtain ⟨x, hx, -, hq⟩ := sgO_in hs; exact absurd hq (nliv x hx)
    have ep : eEd (zE s) n = 0 ∧ eWd (zE s) n = [] := by unfold eEd eWd; rw [he]; exact ⟨rfl, rfl⟩
    refine ⟨S7, g', ?_, z7, ⟨h1.kx z7, h2.kx z7, h3.kx z7, ⟨⟨updT hh n (vR (some E)), ?_, fun j hj => ?_⟩, ?_, fun j ej hej => ?_⟩, h5.kx z7, ?_, h7.kx z7, h8.kx z7 F'⟩, fun h40 a => ?_⟩
    · rw [g2 1 (by decide) (by decide), g2 2 (by decide) (by decide), g29]
      simp only [n_X1_look, kn_2 h1, nd_0 h2 hk, ob_s, eg, he, Option.isSome_none, Bool.false_eq_true, if_false, if_true, nwB_e, ← eE, ← e8, Option.isSome_some, gd_t, n_X7_init, ← eL, i1, bn_s, p1, p2, a1]
    · rw [g2 22 (by decide) (by decide)]; exact a2
    · show updT hh n (vR (some E)) j = vR (if (fu (zE s) n (some (p, fNm (zF s) n, eEd (zE s) n, eWd (zE s) n)) j).isSome then some (g'.2 9 j) else none)
      unfold updT
      by_cases ej : j = n
      · subst ej; rw [if_pos rfl, fu_s, g29]; rfl
      · rw [if_neg ej, fu_n _ _ ej, g29n j ej]; exact q2 j hj
    · rw [g2 22 (by decide) (by decide)]; exact z7.own1 q3 (by decide)
    · have hej : fu (zE s) n (some (p, fNm (zF s) n, eEd (zE s) n, eWd (zE s) n)) j = some ej := hej
      by_cases ejn : j = n
      · subst ejn
        rw [fu_s] at hej
        cases hej
        refine ⟨?_, ?_, by rw [g29]; exact g1E, by rw [g210]; exact g1L⟩
        · have so' : sgO (zS (plcS s j p)) j = none := so
          rw [g29, a3, ep.1, so']
          simp only [enC, g210, g2 2 (by decide) (by decide)]
          rw [nI_0]
          rfl
        · rw [ep.2, g210]
          exact i2.fr (by rw [a4 L (Ne.symm nEL) (fun z => by rw [← z] at q3; rw [q3] at hL0; cases hL0), cT.1 L (Ne.symm nEL)])
      · rw [fu_n _ _ ejn] at hej
        obtain ⟨w1, w2, w3, w4⟩ := q4 j ej hej
        have w922 : g.2 9 j ≠ g.2 22 0 := fun z => by rw [z, q3] at w3; cases w3
        have w1022 : g.2 10 j ≠ g.2 22 0 := fun z => by rw [z, q3] at w4; cases w4
        rw [g29n j ejn, g210n j ejn]
        refine ⟨?_, ?_, z7.own1 w3 (by decide), z7.own1 w4 (by decide)⟩
        · rw [oA _ (by rw [w3]; exact Nat.succ_ne_zero _) w922, w1]
          simp only [enC, g2 2 (by decide) (by decide), g2 12 (by decide) (by decide), g210n j ejn]
          rfl
        · rw [bx]; exact w2.fr (oA _ (by rw [w4]; exact Nat.succ_ne_zero _) w1022)
    · obtain ⟨s1, s2, s3⟩ := h6'
      refine ⟨?_, ?_, fun x hx => ?_⟩
      · rw [g2 24 (by decide) (by decide), g2 12 (by decide) (by decide)]; exact s1.fr (z7.at1 s2 (by decide))
      · rw [g2 24 (by decide) (by decide)]; exact z7.own1 s2 (by decide)
      · obtain ⟨u1, u2, u3, u4⟩ := s3 x hx
        have el : (lvS x).map (fun p => some (g'.2 9 p.1)) = (lvS x).map fun p => some (g.2 9 p.1) := List.map_congr_left fun p hp' => by
          obtain ⟨m1, m2⟩ := List.mem_filter.mp hp'
          rw [g29n]
          intro z
          refine nliv x hx ?_
          have : p = (n, false) := Prod.ext z (by simpa using m2)
          rw [← this]; exact m1
        rw [g2 12 (by decide) (by decide), g2 13 (by decide) (by decide), el]
        refine ⟨?_, u2.fr (z7.at1 u4 (by decide)), z7.own1 u3 (by decide), z7.own1 u4 (by decide)⟩
        rw [z7.at1 u3 (by decide), u1]
        simp only [sgC, g2 13 (by decide) (by decide)]
    · rw [eg', newO_1]
      split
      · exact (by decide : (10 : Nat) ≠ 40)
      · rw [newO_1]
        split
        · exact (by decide : (9 : Nat) ≠ 40)
        · exact h40 a
theorem k_look (h : RK g s S) (hI : IW s rk) (hsm : ∀ m ∈ fMk (zF s) n, Sm m) (h40 : N40 g) (hk : n < fMd (zF s)) (ht : (abv (zF s) (zR s) n).isSome = true) : ∃ S' g', n_X1_look S (some (g.2 1 0)) (some (g.2 2 n)) = some ((), S') ∧ KX [0, 9, 11, 22, 23, 25] [9, 10, 11] (if fFo (zF s) n = true then fMd (zF s) + 3 + 2 * ((zA (look s n)).length - (zA s).length) else if eEd (zE s) n = fEd (zF s) n then 3 else 5 + 12 * (fMk (zF s) n).length) g S g' S' ∧ RK g' (look s n) S' := by
  obtain ⟨A, h6, hT, hN, hB, hE, hF, hS, hF1, hE0, hW⟩ := hI
  obtain ⟨p, hp, hpm⟩ := abv_par A hk ht
  obtain ⟨S1, g1, a1, a2, a3, a4⟩ := k_plc h hS h6 hk hp (hF1 n hk).2
  have hed : eEd (zE s) n < 1000 := by
    unfold eEd
    cases h : zE s n with
    | none => decide
    | some e => exact (hE n e h).2.2.1
  obtain ⟨S2, g2, b1, b2, b3⟩ := k_lkR (n := n) (e := (p, fNm (zF s) n, eEd (zE s) n, eWd (zE s) n)) a3 A hB hF h6 hsm (a4 h40) hk (fu_s _ _ _) (by show eEd (zE s) n < _; omega)
  rw [lkS_look hp] at b2 b3
  refine ⟨S2, g2, a1.trans b1, KX_n (KX_tr (KX_up a2 (by decide) (by decide) (Nat.le_refl _)) (KX_up b2 (by decide) (by decide) (Nat.le_refl _))) ?_, b3⟩
  show 3 + (if fFo (zF s) n = true then fMd (zF s) + 2 * ((zA (look s n)).length - (zA s).length) else if eEd (zE s) n = fEd (zF s) n then 0 else 2 + 12 * (fMk (zF s) n).length) ≤ _
  split
  · omega
  · split <;> omega
end
