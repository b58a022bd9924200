/-! the keeper: a root changes; notices are told -/
/-- a new owner -/
def newO (g : GA) (a t i : Nat) : GA := (fun b => if b = a then (t, i) else g.1 b, g.2)
section
variable {S S' S1 : St} {g g' : GA} {T U : List Nat} {n m a b c : Nat} {f : Fl} {rs : List RtV} {en : En} {o : Nat → Option Nat} {ac : List AcV} {sg : List SgV} {w : Int64} {nm : Nm} {s : Sg} {rk : Nat → Nat} {k p : Nat}
theorem newO_1 (t i : Nat) (b : Nat) : (newO g a t i).1 b = if b = a then (t, i) else g.1 b := rfl
theorem newO_2 (t i : Nat) : (newO g a t i).2 = g.2 := rfl
theorem KX_own (hz : (g.1 a).1 = 0) (t i : Nat) (h0 : 0 ∈ T) : KX T U 0 g S (newO g a t i) S := ⟨h0, fun _ _ => rfl, fun b hb => by
  rw [newO_1, if_neg]; rintro rfl; exact hb hz, fun _ _ => rfl, Nat.le_refl _, Nat.le_refl _, Nat.le_refl _, rfl⟩
theorem KX_ch1 {t i : Nat} (h : Ch a c S S') (hq : g.1 a = (t, i)) (h0 : 0 ∈ T := by decide) (ht : t ∈ T := by decide) : KX T U c g S g S' := KX_ch h h0 (by rw [hq]; exact ht)
theorem FR_own (hF : FR g S) (h : a < S.2.1) (t i : Nat) : FR (newO g a t i) S := fun b hb => by
  rw [newO_1, if_neg (by omega)]; exact hF b hb
theorem nwB_e {α : Type} (S : St) (e : CE) (n : Nat) (f : Option Nat → St → Option α) : nwB S e n f = f (some S.2.1) (spu S e n) := rfl
theorem RKt.fr {q : RtV} (h : RKt g S q) (h1 : ∀ a, (g.1 a).1 ∈ [4, 5, 6, 7] → (g.1 a).2 = q.1 → S'.1 a = S.1 a) (h2 : ∀ a, (g.1 a).1 = 8 → S'.1 a = S.1 a) (hg : ∀ a, (g.1 a).1 ≠ 0 → g'.1 a = g.1 a) (had : ∀ t ∈ [2, 4, 5, 7], g'.2 t = g.2 t) (h6 : g'.2 6 q.1 = g.2 6 q.1) (hcs : S'.2.2.2 = S.2.2.2) : RKt g' S' q := by
  obtain ⟨k1, ⟨ts, k2, k3, k4⟩, k5, k6, k7, k8, k9⟩ := h
  have a2 := had 2 (by decide)
  have a4 := had 4 (by decide)
  have a5 := had 5 (by decide)
  have a7 := had 7 (by decide)
  have ow1 : ∀ {x t i}, g.1 x = (t, i) → t ≠ 0 → g'.1 x = (t, i) := fun {x t i} hx ht => by rw [hg x (by rw [hx]; exact ht)]; exact hx
  have at1 : ∀ {x t}, g.1 x = (t, q.1) → t ∈ [4, 5, 6, 7] → S'.1 x = S.1 x := fun {x t} hx ht => h1 x (by rw [hx]; exact ht) (by rw [hx])
  simp only [RKt, RKq, rtC, toldC, a2, a4, a5, a7, h6, hcs]
  refine ⟨(at1 k7 (by decide)).trans k1, ⟨ts, k2.fr (at1 k8 (by decide)), k3, fun i t p ht hp => ?_⟩, fun l hl => ?_, (at1 k9 (by decide)).trans k6, ow1 k7 (by decide), ow1 k8 (by decide), ow1 k9 (by decide)⟩
  · obtain ⟨x1, x2⟩ := k4 i t p ht hp
    exact ⟨(h2 t x2).trans x1, by rw [hg t (by rw [x2]; decide)]; exact x2⟩
  · obtain ⟨x1, x2⟩ := k5 l hl
    exact ⟨x1.fr (at1 x2 (by decide)), ow1 x2 (by decide)⟩
theorem updR_eq (hN : (rs.map (·.1)).Nodup) {r : RtV} (hr : r ∈ rs) (gf : RtV → RtV) : updR rs r.1 gf = rs.map fun q => if q.1 = r.1 then gf r else q := by
  unfold updR
  refine List.map_congr_left fun q hq => ?_
  by_cases e : q.1 = r.1
  · rw [if_pos e, if_pos e]
    obtain ⟨i, hi⟩ := List.mem_iff_getElem?.mp hq
    obtain ⟨j, hj⟩ := List.mem_iff_getElem?.mp hr
    have h1 : (rs.map (·.1))[i]? = some q.1 := by rw [List.getElem?_map, hi]; rfl
    have h2 : (rs.map (·.1))[j]? = some r.1 := by rw [List.getElem?_map, hj]; rfl
    have : i = j := (List.getElem?_inj (List.getElem?_eq_some_iff.mp h1).1 hN).mp (by rw [h1, h2, e])
    subst this
    rw [hi] at hj
    cases hj
    rfl
  · rw [if_neg e, if_neg e]
/-- one root has changed -/
theorem RKr_upd (h : RKr g rs S) (hN : (rs.map (·.1)).Nodup) {r : RtV} (hr : r ∈ rs) (gf : RtV → RtV) (hgf : (gf r).1 = r.1) (h1 : ∀ a, (g.1 a).1 ≠ 0 → (g.1 a).1 ∉ [4, 5, 6, 7] ∨ (g.1 a).2 ≠ r.1 → (g.1 a).1 ∈ [4, 5, 6, 7, 8, 21] → S'.1 a = S.1 a) (hg : ∀ a, (g.1 a).1 ≠ 0 → g'.1 a = g.1 a) (had : ∀ t ∈ [2, 4, 5, 7, 21], g'.2 t = g.2 t) (h6 : ∀ i, i ≠ r.1 → g'.2 6 i = g.2 6 i) (hcs : S'.2.2.2 = S.2.2.2) (hr' : RKt g' S' (gf r)) : RKr g' (updR rs r.1 gf) S' := by
  obtain ⟨k1, k2, k3⟩ := h
  have a4 := had 4 (by decide)
  have a21 := had 21 (by decide)
  rw [updR_eq hN hr]
  refine ⟨?_, by rw [a21, hg _ (by rw [k2]; decide)]; exact k2, fun q hq => ?_⟩
  · rw [a21, List.map_map]
    have e : (rs.map ((fun r => some (g'.2 4 r.1)) ∘ fun q => if q.1 = r.1 then gf r else q)) = rs.map fun r => some (g.2 4 r.1) := by
      refine List.map_congr_left fun q hq => ?_
      simp only [Function.comp]
      split
      · next e => rw [a4, hgf, e]
      · rw [a4]
    rw [e]
    exact k1.fr (h1 _ (by rw [k2]; decide) (Or.inl (by rw [k2]; decide)) (by rw [k2]; decide))
  · obtain ⟨q0, hq0, rfl⟩ := List.mem_map.mp hq
    by_cases e : q0.1 = r.1
    · rw [if_pos e]; exact hr'
    · rw [if_neg e]
      refine (k3 q0 hq0).fr (fun a ha hb => h1 a (fun z => by rw [z] at ha; exact absurd ha (by decide)) (Or.inr (by rw [hb]; exact e)) ?_) (fun a ha => h1 a (by rw [ha]; decide) (Or.inl (by rw [ha]; decide)) (by rw [ha]; decide)) hg (fun t ht => had t (by simp only [List.mem_cons, List.not_mem_nil, or_false] at ht ⊢; omega)) (h6 _ e) hcs
      simp only [List.mem_cons, List.not_mem_nil, or_false] at ha ⊢
      omega
theorem told_init {x y : TV} (h : S.1 a = some (cO 2 [x, y])) (u v : Option Nat) : n_X4_init S (some a) u v = some ((), sup S a (cO 2 [vR u, vR v])) := by
  have h1 : (sup S a (cO 2 [vR u, y])).1 a = some (cO 2 [vR u, y]) := sup_at _ _ _
  simp only [n_X4_init, Option.isSome_some, gd_t, pR_e h, List.length_cons, List.length_nil, Nat.zero_add, show (0 : Nat) < 1 + 1 by decide, if_true, ob_s, List.set_cons_zero, pR_e h1, show (1 : Nat) < 1 + 1 by decide, List.set_cons_succ, sup_sup]
theorem k_rtell (h : RKr g rs S) (hF : FR g S) {r : RtV} (hr : r ∈ rs) (hB : RB f r) (kd n : Nat) : ∃ S' g', n_X6_tell S (some (g.2 4 r.1)) (some (S.2.2.2 (kd + 1))) (some (g.2 2 n)) = some ((), S') ∧ KX [0, 4, 5] [] 2 g S g' S' ∧ g'.2 = g.2 ∧ FR g' S' ∧ (∀ a, (g.1 a).1 ≠ 0 → g.1 a ≠ (4, r.1) → g.1 a ≠ (5, r.1) → S'.1 a = S.1 a) ∧ RKt g' S' (telR kd n r) := by
  obtain ⟨k1, ⟨ts, k2, k3, k4⟩, k5, k6, k7, k8, k9⟩ := h.2.2 r hr
  have h8 := hB.2.1
  have ne45 : g.2 5 r.1 ≠ g.2 4 r.1 := fun e => by rw [e, k7] at k8; cases k8
  have ne75 : g.2 7 r.1 ≠ g.2 5 r.1 := fun e => by rw [e, k8] at k9; cases k9
  have ne74 : g.2 7 r.1 ≠ g.2 4 r.1 := fun e => by rw [e, k7] at k9; cases k9
  have ne6 : ∀ l, r.2.2.2.1 = some l → g.2 6 r.1 ≠ g.2 5 r.1 ∧ g.2 6 r.1 ≠ g.2 4 r.1 := fun l hl => by
    obtain ⟨-, x2⟩ := k5 l hl
    exact ⟨fun e => (by rw [e, k8] at x2; cases x2), fun e => (by rw [e, k7] at x2; cases x2)⟩
  have flood : ∃ S', n_X6_tell_b19 S (some (g.2 4 r.1)) = some ((), S') ∧ KX [0, 4, 5] [] 2 g S g S' ∧ (∀ a, (g.1 a).1 ≠ 0 → g.1 a ≠ (4, r.1) → g.1 a ≠ (5, r.1) → S'.1 a = S.1 a) ∧ RKt g S' (r.1, [], true, r.2.2.2) := by
    obtain ⟨S2, e2⟩ : ∃ S2, S2 = sup S (g.2 4 r.1) (rtC g (r.1, [], true, r.2.2.2)) := ⟨_, rfl⟩
    have p1 : pI .boolean S (some (g.2 4 r.1)) 4 2 1 = some S2 := by
      rw [e2]
      simp only [pI, show gfit .boolean 1 = true by decide, if_true, pF_e (show S.1 (g.2 4 r.1) = some (cO 4 [vR (some (g.2 2 r.1)), vR (some (g.2 5 r.1)), vI (b2i r.2.2.1), vR (r.2.2.2.1.map fun _ => g.2 6 r.1), vR (some (g.2 7 r.1))]) from k1)]
      rfl
    have c2 : S2.1 (g.2 4 r.1) = some (rtC g (r.1, [], true, r.2.2.2)) := by rw [e2]; exact sup_at _ _ _
    have o2 : ∀ a, a ≠ g.2 4 r.1 → S2.1 a = S.1 a := fun a ha => by rw [e2]; exact sup_ne _ _ ha
    have q2 : isLL S2 (g.2 5 r.1) (ts.map some) := k2.fr (o2 _ ne45)
    obtain ⟨S3, r1, r2, r3⟩ := ll_clear q2 (by rw [List.length_map]; omega)
    refine ⟨S3, ?_, ?_, ?_, ?_⟩
    · have g1 : gR S2 (some (g.2 4 r.1)) 4 1 = some (some (g.2 5 r.1)) := by rw [gR_e c2]; rfl
      simp only [n_X6_tell_b19, p1, ob_s, g1, q2.cl, gd_t, r1, bn_s]
    · refine KX_n (KX_tr (KX_ch1 (S' := S2) (a := g.2 4 r.1) (c := 0) (by rw [e2]; exact Ch_sup _) k7) (KX_ch1 r3 k8)) (by decide)
    · intro a _ h4 h5
      rw [r3.1 a (fun e => h5 (by rw [e]; exact k8)), o2 a (fun e => h4 (by rw [e]; exact k7))]
    · have cs : S3.2.2.2 = S.2.2.2 := by rw [r3.2.2.2.2, e2]; rfl
      refine ⟨by rw [r3.1 _ (Ne.symm ne45)]; exact c2, ⟨[], r2, rfl, fun i t p ht => by simp at ht⟩, fun l hl => ?_, by rw [r3.1 _ ne75, o2 _ ne74]; exact k6, k7, k8, k9⟩
      obtain ⟨x1, x2⟩ := k5 l hl
      exact ⟨x1.fr (by rw [r3.1 _ (ne6 l hl).1, o2 _ (ne6 l hl).2]), x2⟩
  have hg2 : gI S (some (g.2 4 r.1)) 4 2 = some (b2i r.2.2.1) := rt_2 h hr
  have hg1 := rt_1 h hr
  rcases Bool.eq_false_or_eq_true r.2.2.1 with b1 | b1
  · obtain ⟨S', x1, x2, x3, x4⟩ := flood
    refine ⟨S', g, ?_, x2, rfl, FR_sm hF x2.le, x3, ?_⟩
    · simp only [n_X6_tell, hg2, ob_s, b2i_0, b1, Bool.true_eq_false, if_false]; exact x1
    · simp only [telR, b1, Bool.true_or, if_true]; exact x4
  · by_cases e8 : r.2.1.length = 8
    · obtain ⟨S', x1, x2, x3, x4⟩ := flood
      refine ⟨S', g, ?_, x2, rfl, FR_sm hF x2.le, x3, ?_⟩
      · simp only [n_X6_tell, hg2, ob_s, b2i_0, b1, if_true, hg1, k2.cl, gd_t, ll_size k2, bn_s, List.length_map, k3, e8, show ((nI 8 : Int32) = 8) = True by decide +kernel]; exact x1
      · simp only [telR, e8, beq_self_eq_true, Bool.or_true, if_true]; exact x4
    · have e8' : (nI r.2.1.length = 8) = False := by
        rw [li_8, nI_eqE (by omega) (by decide)]; exact eq_false e8
      obtain ⟨q, eq⟩ : ∃ q, q = S.2.1 := ⟨_, rfl⟩
      have hq0 : (g.1 q).1 = 0 := by rw [eq]; exact hF _ (Nat.le_refl _)
      have neq : ∀ {x t i}, g.1 x = (t, i) → t ≠ 0 → x ≠ q := fun {x t i} hx ht e => by rw [e] at hx; rw [hx] at hq0; exact ht hq0
      obtain ⟨S2, e2⟩ : ∃ S2, S2 = sup (spu S (cO 2 [vR none, vR none]) 2) q (cO 2 [vR (some (S.2.2.2 (kd + 1))), vR (some (g.2 2 n))]) := ⟨_, rfl⟩
      have c2 : Ch q 1 S S2 := by rw [e2, eq]; exact Ch_n (Ch_tr (Ch_spu _ (c := 1) (by omega) (Nat.le_refl _)) (Ch_sup _)) (by decide)
      have t2 : S2.1 q = some (cO 2 [vR (some (S.2.2.2 (kd + 1))), vR (some (g.2 2 n))]) := by rw [e2]; exact sup_at _ _ _
      have q2 : isLL S2 (g.2 5 r.1) (ts.map some) := k2.fr (c2.1 _ (neq k8 (by decide)))
      obtain ⟨S3, r1, r2, r3⟩ := ll_addLast q2 (some q)
      have o3 : ∀ a, a ≠ q → a ≠ g.2 5 r.1 → S3.1 a = S.1 a := fun a h1 h2 => by rw [r3.1 a h2, c2.1 a h1]
      have n5q : q ≠ g.2 5 r.1 := Ne.symm (neq k8 (by decide))
      have cs : S3.2.2.2 = S.2.2.2 := by rw [r3.2.2.2.2, c2.2.2.2.2]
      have hx : KX [0, 4, 5] [] 2 g S (newO g q 8 q) S3 := KX_n (KX_tr (KX_tr (KX_ch c2 (by decide) (by rw [hq0]; decide)) (KX_ch1 r3 k8)) (KX_own hq0 8 q (by decide))) (by decide)
      refine ⟨S3, newO g q 8 q, ?_, hx, rfl, FR_own (FR_sm hF (by have := c2.2.1; have := r3.2.1; omega)) (by rw [eq]; exact Nat.lt_of_lt_of_le (show S.2.1 < S2.2.1 from by rw [e2]; exact Nat.lt_succ_self _) r3.2.1) _ _, ?_, ?_⟩
      · have ti := told_init (S := spu S (cO 2 [vR none, vR none]) 2) (a := q) (by rw [eq]; exact spu_at _ _ _) (some (S.2.2.2 (kd + 1))) (some (g.2 2 n))
        rw [← e2] at ti
        simp only [n_X6_tell, hg2, ob_s, b2i_0, b1, if_true, hg1, k2.cl, gd_t, ll_size k2, bn_s, List.length_map, k3, e8', if_false, nwB_e, ← eq, Option.isSome_some, ti, q2.cl, r1]
      · intro a h0 _ h5
        exact o3 a (fun e => by rw [e] at h0; exact h0 hq0) (fun e => h5 (by rw [e]; exact k8))
      · have et : telR kd n r = (r.1, r.2.1 ++ [(kd, n)], r.2.2) := by simp [telR, b1, e8]
        rw [et]
        have ow : ∀ {x t i}, g.1 x = (t, i) → t ≠ 0 → (newO g q 8 q).1 x = (t, i) := fun {x t i} hx ht => by rw [newO_1, if_neg (neq hx ht)]; exact hx
        refine ⟨?_, ⟨ts ++ [q], ?_, by simp [k3], fun i t p ht hp => ?_⟩, fun l hl => ?_, ?_, ow k7 (by decide), ow k8 (by decide), ow k9 (by decide)⟩
        · show S3.1 (g.2 4 r.1) = some (rtC g r)
          rw [o3 _ (neq k7 (by decide)) (Ne.symm ne45)]; exact k1
        · show isLL S3 (g.2 5 r.1) _
          rw [List.map_append]; exact r2
        · by_cases hi : i < ts.length
          · rw [List.getElem?_append_left hi] at ht
            rw [List.getElem?_append_left (by omega)] at hp
            obtain ⟨x1, x2⟩ := k4 i t p ht hp
            have hxt : g.1 t = (8, (g.1 t).2) := by rw [← x2]
            have hne5 : t ≠ g.2 5 r.1 := fun e => by rw [e, k8] at x2; cases x2
            refine ⟨?_, by rw [ow hxt (by decide)]⟩
            simp only [toldC, cs, newO_2]
            rw [o3 _ (neq hxt (by decide)) hne5]; exact x1
          · rw [List.getElem?_append_right (by omega)] at ht
            rw [List.getElem?_append_right (by omega)] at hp
            have hi0 : i - ts.length = 0 := by
              have := (List.getElem?_eq_some_iff.mp ht).1
              simp at this; omega
            have hi1 : i - r.2.1.length = 0 := by omega
            rw [hi0] at ht
            rw [hi1] at hp
            simp at ht hp
            subst ht; subst hp
            refine ⟨?_, by rw [newO_1, if_pos rfl]⟩
            simp only [toldC, cs, newO_2]
            rw [r3.1 _ n5q]; exact t2
        · obtain ⟨x1, x2⟩ := k5 l hl
          exact ⟨x1.fr (o3 _ (neq x2 (by decide)) (ne6 l hl).1), ow x2 (by decide)⟩
        · show S3.1 (g.2 7 r.1) = _
          rw [o3 _ (neq k9 (by decide)) ne75]; exact k6
end
