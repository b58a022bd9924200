/-! the keeper's work: temporary owners go; drop, whole -/
/-- temporary owners are gone -/
def un40 (g : GA) : GA := (fun a => if (g.1 a).1 = 40 then (0, 0) else g.1 a, g.2)
def N40 (g : GA) : Prop := ∀ a, (g.1 a).1 ≠ 40
/-- entries of a set are gone -/
def fgD (s : Sg) (D : Nat → Bool) : Sg := (zF s, zR s, drE (zE s) D, zA s, kilS (zS s) D, zW s, zN s)
/-- the number of entries -/
def cE (en : En) : Nat := cnB (fun k => (en k).isSome) 60
section
variable {S S' S1 : St} {g g' : GA} {T U : List Nat} {n m a b c x y t i : Nat} {f f' : Fl} {rs : List RtV} {en : En} {o : Nat → Option Nat} {ac : List AcV} {sg : List SgV} {w : Int64} {nm : Nm} {s : Sg} {rk : Nat → Nat} {k p : Nat} {e : EnV} {D : Nat → Bool}
theorem KX.own1 (x : KX T U n g S g' S') {q : Nat} (hq : g.1 q = (t, i)) (ht : t ≠ 0 := by decide) : g'.1 q = (t, i) := by
  rw [x.2.2.1 q (by rw [hq]; exact ht)]; exact hq
theorem un_N (g : GA) : N40 (un40 g) := fun a => by
  show (if (g.1 a).1 = 40 then ((0, 0) : Nat × Nat) else g.1 a).1 ≠ 40
  split
  · decide
  · next h => exact h
theorem un_at (h : g.1 a = (t, i)) (ht : t ≠ 40 := by decide) : (un40 g).1 a = (t, i) := by
  show (if (g.1 a).1 = 40 then ((0, 0) : Nat × Nat) else g.1 a) = _
  rw [h]
  exact if_neg ht
theorem un_k (h : (g.1 a).1 = t) (ht : t ≠ 40 := by decide) : ((un40 g).1 a).1 = t := by
  show (if (g.1 a).1 = 40 then ((0, 0) : Nat × Nat) else g.1 a).1 = _
  rw [if_neg (by rw [h]; exact ht)]; exact h
theorem RK_un (h : RK g s S) : RK (un40 g) s S := by
  obtain ⟨⟨n1, n2⟩, ⟨f1, f2, f3⟩, ⟨r1, r2, r3⟩, ⟨e1, e2, e3⟩, ⟨a1, a2, a3⟩, ⟨s1, s2, s3⟩, ⟨w1, w2⟩, ⟨c1, c2, c3, c4⟩⟩ := h
  refine ⟨⟨n1, un_at n2⟩, ⟨f1, un_at f2, fun k hk => ?_⟩, ⟨r1, un_at r2, fun r hr => ?_⟩, ⟨e1, un_at e2, fun k e he => ?_⟩, ⟨a1, un_at a2, fun z hz => ?_⟩, ⟨s1, un_at s2, fun z hz => ?_⟩, ⟨w1, un_at w2⟩, ⟨fun i hi => ?_, c2, c3, fun b hb => ?_⟩⟩
  · obtain ⟨k1, k2, k3, k4⟩ := f3 k hk
    exact ⟨k1, k2, un_at k3, un_at k4⟩
  · obtain ⟨k1, ⟨ts, k2, k3, k4⟩, k5, k6, k7, k8, k9⟩ := r3 r hr
    exact ⟨k1, ⟨ts, k2, k3, fun i t p ht hp => ⟨(k4 i t p ht hp).1, un_k (k4 i t p ht hp).2⟩⟩, fun l hl => ⟨(k5 l hl).1, un_at (k5 l hl).2⟩, k6, un_at k7, un_at k8, un_at k9⟩
  · obtain ⟨k1, k2, k3, k4⟩ := e3 k e he
    exact ⟨k1, k2, un_at k3, un_at k4⟩
  · obtain ⟨k1, k2⟩ := a3 z hz
    exact ⟨k1, un_at k2⟩
  · obtain ⟨k1, k2, k3, k4⟩ := s3 z hz
    exact ⟨k1, k2, un_at k3, un_at k4⟩
  · exact ⟨(c1 i hi).1, un_k (c1 i hi).2⟩
  · exact un_k (c4 b hb)
theorem KX_un (hN : N40 g) (x : KX T U n g S g' S') : KX T U n g S (un40 g') S' := by
  obtain ⟨h0, h1, h2, h3, h5⟩ := x
  refine ⟨h0, h1, fun a ha => ?_, h3, h5⟩
  show (if (g'.1 a).1 = 40 then ((0, 0) : Nat × Nat) else g'.1 a) = _
  rw [h2 a ha, if_neg (hN a)]
theorem KX_r40 (hN : N40 g) (x : KX (40 :: T) U n g S g' S') (h0 : 0 ∈ T := by decide) : KX T U n g S g' S' := by
  obtain ⟨-, h1, h2⟩ := x
  refine ⟨h0, fun a ha => h1 a fun z => ?_, h2⟩
  rcases List.mem_cons.mp z with z | z
  · exact hN a z
  · exact ha z
theorem fgD_fgt (s : Sg) (D : Nat → Bool) (k : Nat) : fgt (fgD s D) k = fgD s fun j => D j || j == k := by
  have e1 : fu (drE (zE s) D) k none = drE (zE s) fun j => D j || j == k := by
    funext j
    by_cases e : j = k
    · subst e; rw [fu_s]; simp [drE]
    · rw [fu_n _ _ e]; simp [drE, beq_false_of_ne e]
  have e2 : kilS (kilS (zS s) D) (fun j => j == k) = kilS (zS s) fun j => D j || j == k := by
    simp only [kilS, List.map_map]
    refine List.map_congr_left fun x _ => ?_
    refine Prod.ext rfl ?_
    simp only [Function.comp, List.map_map]
    exact List.map_congr_left fun p _ => by simp only [Function.comp, Bool.or_assoc]
  show (zF s, zR s, fu (drE (zE s) D) k none, zA s, kilS (kilS (zS s) D) (fun j => j == k), zW s, zN s) = _
  rw [e1, e2]
  rfl
theorem IW_fgD (hI : IW s rk) (D : Nat → Bool) : IW (fgD s D) rk := by
  obtain ⟨A, h6, hT, hN, hB, hE, hF, hS, hF1, hE0, hW⟩ := hI
  have hd : ∀ k e, drE (zE s) D k = some e → zE s k = some e := fun k e h => by
    simp only [drE] at h
    split at h
    · cases h
    · exact h
  refine ⟨A, h6, hT, hN, hB, fun k e h => hE k e (hd k e h), hF, ⟨?_, ?_⟩, hF1, fun k e h => hE0 k e (hd k e h), hW⟩
  · show (kilS (zS s) _).length ≤ 4
    simpa [kilS] using hS.1
  · intro g hg
    obtain ⟨g0, h0, rfl⟩ := List.mem_map.mp hg
    obtain ⟨s1, s2⟩ := hS.2 g0 h0
    refine ⟨by simpa [List.map_map, Function.comp_def] using s1, fun p hp => ?_⟩
    obtain ⟨p0, hp0, rfl⟩ := List.mem_map.mp hp
    obtain ⟨b1, b2, b3⟩ := s2 p0 hp0
    refine ⟨b1, b2, fun z => ?_⟩
    simp only [Bool.or_eq_false_iff] at z
    show (drE (zE s) D p0.1).isSome = true
    simp only [drE, z.2, Bool.false_eq_true, if_false]
    exact b3 z.1
theorem drL_mem : ∀ m, k ∈ drL rs en n m ↔ k < m ∧ drS rs en n k = true := by
  intro m
  induction m with
  | zero => simp [drL]
  | succ m ih =>
    simp only [drL]
    by_cases c : drS rs en n m = true
    · rw [if_pos c]
      simp only [List.mem_append, ih, List.mem_cons, List.not_mem_nil, or_false]
      constructor
      · rintro (⟨q1, q2⟩ | rfl)
        · exact ⟨by omega, q2⟩
        · exact ⟨by omega, c⟩
      · rintro ⟨q1, q2⟩
        by_cases e : k = m
        · exact Or.inr e
        · exact Or.inl ⟨by omega, q2⟩
    · rw [if_neg c]
      rw [ih]
      constructor
      · rintro ⟨q1, q2⟩; exact ⟨by omega, q2⟩
      · rintro ⟨q1, q2⟩
        have : k ≠ m := fun e => c (by rw [← e]; exact q2)
        exact ⟨by omega, q2⟩
theorem drL_nd : ∀ m, (drL rs en n m).Nodup := by
  intro m
  induction m with
  | zero => simp [drL]
  | succ m ih =>
    simp only [drL]
    split
    · rw [List.nodup_append]
      refine ⟨ih, by simp, fun x hx y hy => ?_⟩
      simp at hy
      subst hy
      have := (drL_mem _).mp hx
      omega
    · exact ih
theorem al_init0 {fs : List TV} (h : S.1 a = some (cO 8 fs)) (hf : fs = [vI 0, vR none, vI 0]) : ∃ S', h_J2_init S (some a) = some ((), S') ∧ isAL S' a [] ∧ alK S' a = 0 ∧ Ch a 0 S S' := by
  subst hf
  exact ⟨_, by simp only [h_J2_init, gobj_e h, Option.bind_some, if_true], ⟨0, 0, sup_at _ _ _⟩, alK_e (sup_at _ _ _), Ch_sup _⟩
theorem al_it1 {xs : List (Option Nat)} (h : isAL S a xs) (hl : xs.length < 1000) (ha : a < S.2.1) : ∃ S', h_J2_iterator S (some a) = some (some S.2.1, S') ∧ IA S' S.2.1 a xs 0 ∧ Ch S.2.1 1 S S' ∧ S.2.1 < S'.2.1 := by
  obtain ⟨S', h1, h2, h3⟩ := al_it h hl ha
  refine ⟨S', h1, h2, h3, ?_⟩
  obtain ⟨md, cap, h⟩ := h
  simp only [h_J2_iterator, galc_e h, Option.bind_some] at h1
  cases h1
  exact Nat.lt_succ_self _
/-- all of a list are forgotten -/
theorem k_drop2 {L it : Nat} {l : List Nat} (h : RK g s S) (hI : IW s rk) (hU : LU (zS s)) (hl : l.Nodup) (hk : ∀ k ∈ l, (zE s k).isSome = true) (hL : g.1 L = (40, 0)) (ho : g.1 it = (40, 1)) (hi : IA S it L (l.map fun k => some (g.2 9 k)) 0) : ∃ S', n_X1_drop_b84 FU S (some (g.2 1 0)) (some it) = some ((), S') ∧ KX [40, 0, 9, 12, 13, 22] [] 0 g S g S' ∧ RK g (fgD s fun j => l.any fun q => q == j) S' := by
  have hl6 : l.length ≤ 60 := nd_len 60 l hl fun k hk' => by
    obtain ⟨e, he⟩ := Option.isSome_iff_exists.mp (hk k hk')
    have := (hI.2.2.2.2.2.1 k e he).1
    have := hI.2.1
    omega
  have key := lp_st (fun m _ (c : St) => n_X1_drop_b84 m c (some (g.2 1 0)) (some it)) (fun c => some ((), c)) (fun j c => KX [40, 0, 9, 12, 13, 22] [] 0 g S g c ∧ IA c it L (l.map fun k => some (g.2 9 k)) j ∧ RK g (fgD s fun x => (l.take j).any fun q => q == x) c) (fun c => KX [40, 0, 9, 12, 13, 22] [] 0 g S g c ∧ RK g (fgD s fun j => l.any fun q => q == j) c) l.length ?_ ?_ FU 0 S (Nat.zero_le _) (by simp only [FU]; omega) ⟨KX_rf (by decide), hi, ?_⟩
  · obtain ⟨c, hc, e⟩ := key
    exact ⟨c, e, hc⟩
  · intro m j c hj ⟨hx, hit, hr⟩
    obtain ⟨k, hkj⟩ : ∃ k, l[j]? = some k := ⟨l[j], List.getElem?_eq_getElem hj⟩
    have hkm := List.mem_of_getElem? hkj
    obtain ⟨e, he⟩ := Option.isSome_iff_exists.mp (hk k hkm)
    have hxs : (l.map fun k => some (g.2 9 k))[j]? = some (some (g.2 9 k)) := by rw [List.getElem?_map, hkj]; rfl
    obtain ⟨c1, a1, a2, a3⟩ := ia_next hit hxs
    have x1 : KX [0, 40] [] 0 g c g c1 := KX_ch1 a3 ho
    have r1 := hr.kx40 x1
    have hno : (l.take j).any (fun q => q == k) = false := by
      rw [List.any_eq_false]
      intro q hq
      obtain ⟨i, hi, hqi⟩ := List.mem_take_iff_getElem.mp hq
      intro hqk
      have hqk : q = k := by simpa using hqk
      have e2 : l[i]? = l[j]? := by rw [hkj, ← hqk, ← hqi]; exact List.getElem?_eq_getElem _
      have := (List.getElem?_inj (by omega) hl).mp e2
      omega
    have hI1 := IW_fgD hI fun x => (l.take j).any fun q => q == x
    have he1 : zE (fgD s fun x => (l.take j).any fun q => q == x) k = some e := by
      show drE (zE s) (fun x => (l.take j).any fun q => q == x) k = some e
      simp only [drE, hno, Bool.false_eq_true, if_false]
      exact he
    have hU1 : LU (zS (fgD s fun x => (l.take j).any fun q => q == x)) := LU_kil hU (fun x => (l.take j).any fun q => q == x)
    obtain ⟨c2, b1, b2, b3⟩ := k_forget r1 hI1.2.2.2.2.2.2.2.1 hU1 hI1.2.1 hI1.2.2.2.2.2.1 he1
    refine ⟨c2, ⟨KX_n (KX_tr (KX_tr hx (KX_up x1 (by decide) (by decide) (Nat.le_refl _))) (KX_up b2 (by decide) (by decide) (Nat.le_refl _))) (by decide), a2.it.fr (b2.at1 ho (by decide)) (b2.at1 hL (by decide)), ?_⟩, ?_⟩
    · rw [fgD_fgt] at b3
      have : (fun x => (l.take (j + 1)).any fun q => q == x) = fun x => ((l.take j).any fun q => q == x) || x == k := by
        funext x
        rw [List.take_succ, hkj]
        simp only [Option.toList_some, List.any_append, List.any_cons, List.any_nil, Bool.or_false]
        rw [Bool.beq_comm (a := k)]
      rw [this]; exact b3
    · have hlt : (b2i (decide (j < (l.map fun k => some (g.2 9 k)).length)) : Int32) = 1 := by
        rw [List.length_map, decide_eq_true hj]; rfl
      simp only [n_X1_drop_b84, hit.cl, gd_t, ia_has hit, bn_s, hlt, i10, if_false, a1, gcst_g (r1.2.2.2.1.cl he1), r1.1.cl, b1]
  · intro m c ⟨hx, hit, hr⟩
    rw [List.take_length] at hr
    refine ⟨c, ⟨hx, hr⟩, ?_⟩
    have hlt : (b2i (decide (l.length < (l.map fun k => some (g.2 9 k)).length)) : Int32) = 0 := by
      rw [List.length_map, decide_eq_false (by omega)]; rfl
    simp only [n_X1_drop_b84, hit.cl, gd_t, ia_has hit, bn_s, hlt, if_true]
  · have : fgD s (fun x => (l.take 0).any fun q => q == x) = s := by
      have e1 : drE (zE s) (fun x => (l.take 0).any fun q => q == x) = zE s := by funext j; simp [drE]
      have e2 : kilS (zS s) (fun x => (l.take 0).any fun q => q == x) = zS s := by
        simp [kilS]
      show (zF s, zR s, drE (zE s) _, zA s, kilS (zS s) _, zW s, zN s) = _
      rw [e1, e2]
    rw [this]; exact h
theorem k_drop (h : RK g s S) (hI : IW s rk) (hU : LU (zS s)) (h40 : N40 g) (hn : n < fMd (zF s)) : ∃ S' g', n_X1_drop S (some (g.2 1 0)) (some (g.2 2 n)) = some ((), S') ∧ KX [0, 9, 12, 13, 22] [] (64 * cE (zE s) + 12) g S g' S' ∧ g'.2 = g.2 ∧ N40 g' ∧ RK g' (drop s n) S' := by
  obtain ⟨A, h6, hT, hN, hB, hE, hF, hS, hF1, hE0, hW⟩ := hI
  have hI : IW s rk := ⟨A, h6, hT, hN, hB, hE, hF, hS, hF1, hE0, hW⟩
  have hF := h.2.2.2.2.2.2.2.2.2.2
  obtain ⟨L, eL⟩ : ∃ L, L = S.2.1 := ⟨_, rfl⟩
  have hL0 : (g.1 L).1 = 0 := hF L (by omega)
  obtain ⟨S3, a1, a2, a3, a4⟩ := al_init0 (S := spu S (cO 8 [vI 0, vR none, vI 0]) 3) (a := L) (by rw [eL]; exact spu_at _ _ _) rfl
  have c3 : Ch L 1 S S3 := by rw [eL] at a4 ⊢; exact Ch_n (Ch_tr (Ch_spu _ (c := 1) (by omega) (by omega)) a4) (by omega)
  have x3 : KX [0] [] 1 g S g S3 := KX_ch c3 (by decide) (by rw [hL0]; decide)
  have lt3 : L < S3.2.1 := Nat.lt_of_lt_of_le (by rw [eL]; exact Nat.lt_succ_self _) a4.2.1
  obtain ⟨g1, e1⟩ : ∃ g1, g1 = newO g L 40 0 := ⟨_, rfl⟩
  have R1 : RK g1 s S3 := by rw [e1]; exact RK_own (h.kx0 x3) hL0 lt3 40 0
  have hL1 : g1.1 L = (40, 0) := by rw [e1]; exact if_pos rfl
  have e2 : g1.2 = g.2 := by rw [e1]; rfl
  obtain ⟨S4, b1, b2, b3, b4⟩ := k_drop1 R1 hT hE h6 hn hL1 a2 a3
  have hlen := drL_len (rs := zR s) (en := zE s) n 60
  have hcn := cnB_le (fun k => (zE s k).isSome) 60
  obtain ⟨S5, d1, d2, d3, d4⟩ := al_it1 b3 (by rw [List.length_map]; omega) (Nat.lt_of_lt_of_le lt3 b2.le)
  obtain ⟨it, eit⟩ : ∃ it, it = S4.2.1 := ⟨_, rfl⟩
  rw [← eit] at d1 d2 d3 d4
  have R4 := R1.kx40 b2
  have hit0 : (g1.1 it).1 = 0 := R4.2.2.2.2.2.2.2.2.2.2 it (by omega)
  have x5 : KX [0] [] 1 g1 S4 g1 S5 := KX_ch d3 (by decide) (by rw [hit0]; decide)
  have ne : L ≠ it := fun e => by rw [← e, hL1] at hit0; cases hit0
  have lt5 : it < S5.2.1 := d4
  obtain ⟨g2, e3⟩ : ∃ g2, g2 = newO g1 it 40 1 := ⟨_, rfl⟩
  have R5 : RK g2 s S5 := by rw [e3]; exact RK_own (R4.kx0 x5) hit0 lt5 40 1
  have hL2 : g2.1 L = (40, 0) := by rw [e3, newO_1, if_neg ne]; exact hL1
  have hit2 : g2.1 it = (40, 1) := by rw [e3]; exact if_pos rfl
  have e4 : g2.2 = g.2 := by rw [e3, ← e2]; rfl
  obtain ⟨S6, f1, f2, f3⟩ := k_drop2 (l := drL (zR s) (zE s) n 60) R5 hI hU (drL_nd 60) (fun k hk => by
    have := ((drL_mem 60).mp hk).2
    unfold drS at this
    rw [Bool.and_eq_true] at this
    exact this.1) hL2 hit2 (by rw [e4, ← e2]; exact d2)
  have eD : (fun j => (drL (zR s) (zE s) n 60).any fun q => q == j) = drS (zR s) (zE s) n := by
    funext j
    rw [Bool.eq_iff_iff]
    simp only [List.any_eq_true, beq_iff_eq, exists_eq_right]
    rw [drL_mem]
    refine ⟨fun z => z.2, fun z => ⟨?_, z⟩⟩
    have z1 := z
    unfold drS at z1
    rw [Bool.and_eq_true] at z1
    obtain ⟨ev, hev⟩ := Option.isSome_iff_exists.mp z1.1
    have := (hE j ev hev).1
    omega
  rw [eD] at f3
  have y1 : KX [40, 0, 9, 12, 13, 22] [] 0 g S3 g1 S3 := by rw [e1]; exact KX_own hL0 40 0 (by decide)
  have y2 : KX [40, 0, 9, 12, 13, 22] [] 0 g1 S5 g2 S5 := by rw [e3]; exact KX_own hit0 40 1 (by decide)
  have xx : KX [40, 0, 9, 12, 13, 22] [] (64 * cE (zE s) + 12) g S g2 S6 := by
    refine KX_n (KX_tr (KX_tr (KX_tr (KX_tr (KX_tr (KX_up x3 (by decide) (by decide) (Nat.le_refl _)) y1) (KX_up b2 (by decide) (by decide) (Nat.le_refl _))) (KX_up x5 (by decide) (by decide) (Nat.le_refl _))) y2) f2) ?_
    unfold cE
    omega
  refine ⟨S6, un40 g2, ?_, KX_un h40 (KX_r40 h40 xx), e4, un_N g2, RK_un f3⟩
  simp only [n_X1_drop, nwB_e, ← eL, Option.isSome_some, gd_t, a1, bn_s]
  rw [e2] at b1
  rw [b1, d1, bn_s, ← e4]
  exact f1
end
