/-! the keeper's call watch, its end -/
section
variable {S S' S1 : St} {g g' : GA} {T U : List Nat} {n m a b c x y t i : Nat} {f f' : Fl} {rs : List RtV} {en : En} {o : Nat → Option Nat} {ac : List AcV} {sg : List SgV} {w : Int64} {nm : Nm} {s : Sg} {rk : Nat → Nat} {k p : Nat} {e : EnV}
theorem foldl_and {α : Type} (l : List α) (q : α → Bool) (b : Bool) : l.foldl (fun c r => c && !q r) b = (b && !l.any q) := by
  induction l generalizing b with
  | nil => simp
  | cons x l ih => simp only [List.foldl_cons, ih, List.any_cons, Bool.not_or, Bool.and_assoc]
theorem k_watch (h : RK g s S) (A : AC (zF s) rk) (h6 : fMd (zF s) ≤ 60) (hT : RT (zF s) (zR s)) (hN : ((zR s).map (·.1)).Nodup) (hB : AB (zF s) (zA s)) (hE : ES (zF s) (zE s)) (x : Int32) : KO [IOE, ISE] 190 g S (n_X1_watch S (some (g.2 1 0)) x) (opWatch s x) := by
  have hh := h
  obtain ⟨h1, h2, h3, h4, h5, h6', h7, h8⟩ := h
  have hF := h8.2.2.2
  have hR := hT.toS
  simp only [n_X1_watch, h1.cl, gd_t, k_folderAt h1 h2 h6, opWatch]
  cases hfo : foA (zF s) x with
  | none => exact KO_x (j := 0) rfl hh 0 (by decide) (by decide)
  | some n =>
    obtain ⟨hn, -, hgo, -⟩ := foA_some hfo h6
    obtain ⟨S0, i1, i2, i3⟩ := rt_it h3 hF hR.1
    obtain ⟨it, eit⟩ : ∃ it, it = S.2.1 := ⟨_, rfl⟩
    rw [← eit] at i1 i2
    have how : (g.1 it).1 = 0 := hF _ (by omega)
    have H0 := hh.kx0 i3
    simp only [tbn_s, kn_1 h1, ob_s, h3.1.cl, gd_t, i1, bn_s]
    have key := it_find (g := g) (fun r : RtV => r.1 == n) (fun m S0 => n_X1_watch_b16 m S0 (some (g.2 1 0)) (some (g.2 2 n)) (some it)) (fun r S6 => gd (grc S6 (some it) 13) <| bn (h_J29_remove S6 (some it)) fun _ S9 => gd (grc S9 (some (g.2 1 0)) 0) <| bn (n_X1_lookAtAll S9 (some (g.2 1 0))) fun _ S11 => (gR S11 (some (g.2 1 0)) 0 1).bind fun v13 => gd (grc S11 v13 9) <| bn (h_J4_size S11 v13) fun v15 S14 => rtI Sum.inl (Jvm.ClassFile.FieldType.int) v15 S14) (fun S1 => n_X1_watch_b79 S1 (some (g.2 1 0)) (some (g.2 2 n)) (b2i (decide ((zR s).length < 3)))) i2 how ?_ ?_
    · rcases key with ⟨S1, q, j1, j2, j3, j4, j5⟩ | ⟨S1, j2, j3, -, j5⟩
      · -- it was watched
        have hq := List.mem_of_getElem? j1
        have hqn : q.1 = n := by have := List.find?_some j2; simpa using this
        have hir : isR (zR s) n = true := List.any_eq_true.mpr ⟨q, hq, by simp [hqn]⟩
        rw [if_pos hir, j5]
        have H1 := H0.kx0 j3
        obtain ⟨S2, w1, w2, w3, w4⟩ := it_remove j4
        have h21 := h3.2.1
        have x2 : KX [0, 21] [] 0 g S1 g S2 := ⟨by decide, fun a ha => w3 a (fun e => ha (by rw [e, how]; decide)) (fun e => ha (by rw [e, h21]; decide)), fun _ _ => rfl, fun _ _ => rfl, by rw [w4]; exact Nat.le_refl _, by rw [w4]; exact Nat.le_refl _, by rw [w4]; exact Nat.le_refl _, by rw [w4]⟩
        have ef : (zR s).eraseIdx ((zR s).findIdx fun r => r.1 == n) = (zR s).filter fun r => !(r.1 == n) := eraseFilter hN j1 hqn
        have l2 : isLL S2 (g.2 21 0) (((zR s).filter fun r => !(r.1 == n)).map fun r => some (g.2 4 r.1)) := by
          rw [← map_erI, ef] at w2
          obtain ⟨md, lr, ns, y1, y2, y3, -⟩ := w2
          exact ⟨md, ns, y2, y3⟩
        have r2 : RKr g ((zR s).filter fun r => !(r.1 == n)) S2 := RKr_sub H1.2.2.1 (fun r hr => (List.mem_filter.mp hr).1) l2 (fun a ha => x2.at (fun z => by simp only [List.mem_cons, List.not_mem_nil, or_false] at ha z; omega)) x2.cs
        have H2 : RK g (wR s ((zR s).filter fun r => !(r.1 == n))) S2 := ⟨H1.1.kx x2, H1.2.1.kx x2, r2, H1.2.2.2.1.kx x2, H1.2.2.2.2.1.kx x2, H1.2.2.2.2.2.1.kx x2, H1.2.2.2.2.2.2.1.kx x2, H1.2.2.2.2.2.2.2.kx x2 (FR_sm H1.2.2.2.2.2.2.2.2.2.2 x2.le)⟩
        obtain ⟨S3, g3, l1, l2', l3, l4⟩ := k_lookAtAll H2.1 H2.2.1 H2.2.2.2.1 H2.2.2.2.2.1 H2.2.2.2.2.2.2.2.2.2.2 hB hE h6
        have H3 : RK g3 (wA (wR s ((zR s).filter fun r => !(r.1 == n))) (lkA (zE s) (zA s) 60)) S3 := ⟨H2.1.kx l2', H2.2.1.kx l2', H2.2.2.1.kx l2', H2.2.2.2.1.kx l2', l3, H2.2.2.2.2.2.1.kx l2', H2.2.2.2.2.2.2.1.kx l2', H2.2.2.2.2.2.2.2.kx l2' l4⟩
        have k31 := kn_1 H3.1
        have c3 := H3.2.2.1.1
        have a10 : g3.2 1 0 = g.2 1 0 := by rw [l2'.ad (by decide)]
        rw [a10] at k31
        have hlen : ((zR s).filter fun r => !(r.1 == n)).length = (zR s).length - 1 := by
          rw [← ef, List.length_eraseIdx_of_lt (List.getElem?_eq_some_iff.mp j1).1]
        simp only [j4.it.cl, gd_t, w1, bn_s, H2.1.cl, l1, k31, ob_s, c3.cl, ll_size c3, List.length_map, hlen, rt_i]
        have hc60 := cnB_le (fun k => (zE s k).isSome) 60
        have hl60 := (lkA_AB' hB hE 60).len h6
        refine KO_s (KX_n (KX_tr (KX_tr (KX_tr (KX_all i3 (Nat.le_refl _)) (KX_all j3 (Nat.le_refl _))) (KX_all x2 (Nat.le_refl _))) (KX_all l2' (Nat.le_refl _))) ?_) H3
        show 1 + 0 + 0 + (cnB (fun k => (zE s k).isSome) 60 + 2 * ((lkA (zE s) (zA s) 60).length - (zA s).length)) ≤ 190
        omega
      · -- a new one
        have hno : ∀ r ∈ zR s, r.1 ≠ n := fun r hr e => by
          have := List.find?_eq_none.mp j2 r hr
          simp [e] at this
        have hir : isR (zR s) n = false := by
          unfold isR; rw [List.any_eq_false]; intro r hr; simp [hno r hr]
        rw [if_neg (by rw [hir]; decide), j5]
        have x1 := KX_tr i3 j3
        have H1 := hh.kx0 x1
        obtain ⟨S2, k1, k2, k3⟩ := rt_it H1.2.2.1 H1.2.2.2.2.2.2.2.2.2.2 hR.1
        obtain ⟨it2, eit2⟩ : ∃ it2, it2 = S1.2.1 := ⟨_, rfl⟩
        rw [← eit2] at k1 k2
        have how2 : (g.1 it2).1 = 0 := H1.2.2.2.2.2.2.2.2.2.2 _ (by omega)
        obtain ⟨S3, q1, q2⟩ := it_fold (g := g) (fun c (r : RtV) => c && !(blw (zF s) r.1 n || blw (zF s) n r.1)) (fun m c S0 => n_X1_watch_b92 m S0 (some (g.2 1 0)) (some (g.2 2 n)) (b2i c) (some it2)) (fun c S1 => tbn (n_X1_possible S1 (b2i c)) fun _ S3 => nwB S3 (cO 4 [vR none, vR none, vI 0, vR none, vR none]) 5 fun q5 S6 => gd (q5).isSome <| bn (n_X6_init S6 q5 (some (g.2 2 n))) fun _ S7 => gd (grc S7 q5 4) <| bn (n_X6_begin S7 q5) fun _ S9 => (gR S9 (some (g.2 1 0)) 0 1).bind fun v11 => gd (grc S9 v11 9) <| bn (h_J4_add S9 v11 q5) fun v13 S12 => (gR S12 (some (g.2 1 0)) 0 1).bind fun v14 => gd (grc S12 v14 9) <| bn (h_J4_size S12 v14) fun v16 S15 => rtI Sum.inl (Jvm.ClassFile.FieldType.int) v16 S15) k2 how2 (fun m Sa c hit hx => by
            simp only [n_X1_watch_b92, hit.cl, gd_t, hit.has_end, bn_s, if_true]) (fun m Sa Sb i r c hr hit hx n1 n2 hx2 => by
            have hm := List.mem_of_getElem? hr
            have x2 := KX_tr k3 hx2
            have H2 := H1.kx0 x2
            have hrb := hR.2 r hm
            simp only [n_X1_watch_b92, n_X1_watch_b147, n_X1_watch_b148, hit.cl, gd_t, hit.has_lt hr, bn_s, i10, if_false, n1, gcst_g (H2.2.2.1.cl hm), b2i_0, rt_0 H2.2.2.1 hm, ob_s, H2.2.1.cl hrb, H2.2.1.cl hn, k_isBelow H2.2.1 A hrb hn, k_isBelow H2.2.1 A hn hrb]
            cases c with
            | false => rfl
            | true =>
              rcases Bool.eq_false_or_eq_true (blw (zF s) r.1 n) with b | b
              · simp [b, b2i]
              · rcases Bool.eq_false_or_eq_true (blw (zF s) n r.1) with b2 | b2 <;> simp [b, b2, b2i]) (decide ((zR s).length < 3))
        rw [foldl_and] at q2
        have H3 := H1.kx0 (KX_tr k3 q1)
        simp only [n_X1_watch_b79, kn_1 H1.1, ob_s, H1.2.2.1.1.cl, gd_t, k1, bn_s]
        rw [q2]
        have eN : (decide ((zR s).length < 3) && !(zR s).any fun r => blw (zF s) r.1 n || blw (zF s) n r.1) = !decide ((zR s).length = 3 ∨ holR (zF s) (zR s) n = true ∨ (abv (zF s) (zR s) n).isSome = true) := by
          have h3' := hT.1
          have p1 : decide ((zR s).length < 3) = !decide ((zR s).length = 3) := by
            by_cases e3 : (zR s).length = 3
            · simp [e3]
            · have : (zR s).length < 3 := by omega
              simp [e3, this]
          have p2 : ((zR s).any fun r => blw (zF s) r.1 n || blw (zF s) n r.1) = (holR (zF s) (zR s) n || (abv (zF s) (zR s) n).isSome) := by
            unfold holR abv
            rw [hgo]
            simp only [Bool.false_eq_true, if_false, Option.isSome_map]
            rw [Bool.eq_iff_iff]
            simp only [List.any_eq_true, Bool.or_eq_true, List.find?_isSome, beq_iff_eq]
            constructor
            · rintro ⟨r, hr, z | z⟩
              · exact Or.inl ⟨r, hr, Or.inr z⟩
              · exact Or.inr ⟨r, hr, z⟩
            · rintro (⟨r, hr, z | z⟩ | ⟨r, hr, z⟩)
              · exact absurd z (hno r hr)
              · exact ⟨r, hr, Or.inl z⟩
              · exact ⟨r, hr, Or.inr z⟩
          rw [p1, p2, Bool.eq_iff_iff]
          simp
        rw [eN]
        by_cases cc : (zR s).length = 3 ∨ holR (zF s) (zR s) n = true ∨ (abv (zF s) (zR s) n).isSome = true
        · rw [if_pos cc, decide_eq_true cc]
          simp only [Bool.not_true, b2i_f, k_poss0, tbn_x]
          exact KO_x2 (j := 1) rfl hh 0 (by decide) (KX_tr (KX_tr x1 (KX_tr k3 q1)) (KX_ssk H3.2.2.2.2.2.2.2.2.2.2 (T := [0]) (U := []))) (by decide)
        · rw [if_neg cc, decide_eq_false cc]
          obtain ⟨S4, g4, R1, m1, -, m2, m3, m4, m5⟩ := k_newRoot H3 hn hno
          simp only [Bool.not_false, b2i_t, k_poss1, tbn_s]
          have l4 := m3.2.2.1.1
          have k41 := kn_1 m3.1
          rw [m4, m5] at k41
          rw [m5] at l4
          have xx : KX TT UU 190 g S g4 S4 := KX_n (KX_tr (KX_all (KX_tr x1 (KX_tr k3 q1)) (Nat.le_refl _)) m2) (by decide)
          have res : KO [IOE, ISE] 190 g S (some (Sum.inl (nI ((zR s).length + 1)), S4)) (0, nI ((zR s).length + 1), wR s (zR s ++ [begR (n, [], false, none, 0)])) := KO_s xx m3
          rw [nwB_e] at m1
          obtain ⟨_, Sa, hA, m1⟩ := bn_some m1
          obtain ⟨hB1, m1⟩ := gd_some m1
          obtain ⟨_, Sb, hC, m1⟩ := bn_some m1
          obtain ⟨v, hv, m1⟩ := Option.bind_eq_some_iff.mp m1
          obtain ⟨hD, m1⟩ := gd_some m1
          simp only [nwB_e, Option.isSome_some, gd_t, hA, bn_s, hB1, hC, hv, ob_s, hD, m1, k41, l4.cl, ll_size l4, List.length_map, List.length_append, List.length_cons, List.length_nil, Nat.zero_add, rt_i]
          have eln : (zR (wR s (zR s ++ [begR (n, [], false, none, 0)]))).length = (zR s).length + 1 := by
            show (zR s ++ [begR (n, [], false, none, 0)]).length = _
            simp
          rw [eln]
          exact res
    · intro m S1 hit hx
      have H1 := H0.kx0 hx
      have e3 : ((3 : Int32) ≤ nI (zR s).length) = (3 ≤ (zR s).length) := by rw [li_3, nI_leE (by decide) (by have := hT.1; omega)]
      simp only [n_X1_watch_b16, hit.cl, gd_t, hit.has_end, bn_s, if_true, kn_1 H1.1, ob_s, H1.2.2.1.1.cl, ll_size H1.2.2.1.1, List.length_map, e3]
      by_cases e : 3 ≤ (zR s).length
      · rw [if_pos e, decide_eq_false (by omega)]; rfl
      · rw [if_neg e, decide_eq_true (by omega)]; rfl
    · intro m S1 S2 i r hr hit hx n1 n2 hx2
      have hm := List.mem_of_getElem? hr
      have H2 := H0.kx0 hx2
      simp only [n_X1_watch_b16, hit.cl, gd_t, hit.has_lt hr, bn_s, i10, if_false, n1, gcst_g (H2.2.2.1.cl hm), rt_0 H2.2.2.1 hm, ob_s, nd_some H2.2.1 (hR.2 r hm) hn]
      by_cases e : r.1 = n
      · simp [e]
      · simp [e, beq_false_of_ne e]
end
