/-! the keeper's work: a place is buried -/
section
variable {S S' S1 : St} {g g' : GA} {T U : List Nat} {n m a b c x y t i : Nat} {f f' : Fl} {rs : List RtV} {en : En} {o : Nat → Option Nat} {ac : List AcV} {sg : List SgV} {w : Int64} {nm : Nm} {s : Sg} {rk : Nat → Nat} {k p : Nat} {e : EnV}
theorem seg_inj (h : RKs g sg S) {x y : SgV} (hx : x ∈ sg) (hy : y ∈ sg) : (g.2 12 x.1 = g.2 12 y.1) = (x.1 = y.1) := by
  refine propext ⟨fun e => ?_, fun e => by rw [e]⟩
  have h1 := (h.2.2 x hx).2.2.1
  have h2 := (h.2.2 y hy).2.2.1
  rw [e, h2] at h1
  exact (congrArg (·.2) h1).symm
theorem erase_filt {l : List (Nat × Bool)} {ad : Nat → Nat} (hN : (l.map (·.1)).Nodup) (hinj : ∀ p ∈ l, (ad p.1 = ad k) → p.1 = k) : (l.map fun p => some (ad p.1)).erase (some (ad k)) = (l.filter fun p => !(p.1 == k)).map fun p => some (ad p.1) := by
  induction l with
  | nil => rfl
  | cons q l ih =>
    simp only [List.map_cons, List.nodup_cons] at hN
    by_cases e : q.1 = k
    · have hf : l.filter (fun p => !(p.1 == k)) = l := List.filter_eq_self.mpr fun p hp => by
        have : p.1 ≠ k := fun z => hN.1 (List.mem_map.mpr ⟨p, hp, by rw [z, e]⟩)
        simp [this]
      simp only [List.map_cons, List.filter_cons, e, beq_self_eq_true, Bool.not_true, Bool.false_eq_true, if_false, hf]
      rw [List.erase_cons_head]
    · have ne : ¬ (some (ad q.1) == some (ad k)) = true := by
        simp only [beq_iff_eq, Option.some.injEq]
        exact fun z => e (hinj q List.mem_cons_self z)
      simp only [List.map_cons, List.filter_cons, beq_false_of_ne e, Bool.not_false, if_true]
      rw [List.erase_cons_tail (by simpa using ne), ih hN.2 (fun p hp => hinj p (List.mem_cons_of_mem _ hp))]
theorem kil_id {ps : List (Nat × Bool)} (hno : (k, false) ∉ ps) : (ps.map fun p => (p.1, p.2 || p.1 == k)) = ps := by
  have : ps.map (fun p => (p.1, p.2 || p.1 == k)) = ps.map id := List.map_congr_left fun p hp => by
    obtain ⟨p1, p2⟩ := p
    cases p2 with
    | true => rfl
    | false =>
      have : p1 ≠ k := fun z => hno (z ▸ hp)
      simp [beq_false_of_ne this]
  rw [this, List.map_id]
theorem cnt_kil {ps : List (Nat × Bool)} (hN : (ps.map (·.1)).Nodup) (hk : (k, false) ∈ ps) : (ps.map fun p => (p.1, p.2 || p.1 == k)).countP (fun p => p.2) = ps.countP (fun p => p.2) + 1 := by
  induction ps with
  | nil => cases hk
  | cons q l ih =>
    simp only [List.map_cons, List.nodup_cons] at hN
    rcases List.mem_cons.mp hk with z | z
    · have hno : (k, false) ∉ l := fun hp => hN.1 (List.mem_map.mpr ⟨_, hp, by rw [← z]⟩)
      rw [List.map_cons, kil_id hno, ← z]
      simp [List.countP_cons]
    · have hne : q.1 ≠ k := fun e => hN.1 (List.mem_map.mpr ⟨_, z, e.symm⟩)
      rw [List.map_cons, List.countP_cons, List.countP_cons, ih hN.2 z]
      simp only [beq_false_of_ne hne, Bool.or_false]
      omega
theorem k_bury (h : RKs g sg S) (hU : LU sg) (hnd : ∀ x ∈ sg, (x.2.map (·.1)).Nodup) (hadr : ∀ x ∈ sg, ∀ p ∈ lvS x, g.1 (g.2 9 p.1) = (9, p.1)) (hc : S.1 (g.2 9 k) = some (enC g k e (sgO sg k))) (ho : g.1 (g.2 9 k) = (9, k)) (hd : ∀ x ∈ sg, x.2.length ≤ 60) : ∃ S', n_X1_bury S (some (g.2 9 k)) = some ((), S') ∧ KX [0, 9, 12, 13] [] 0 g S g S' ∧ (∀ a, a ≠ g.2 9 k → (g.1 a).1 = 9 → S'.1 a = S.1 a) ∧ S'.1 (g.2 9 k) = some (enC g k e none) ∧ RKs g (kilS sg fun j => j == k) S' := by
  have q5 : gR S (some (g.2 9 k)) 5 5 = some ((sgO sg k).map (g.2 12)) := by rw [gR_e hc]; rfl
  cases hs : sgO sg k with
  | none =>
    refine ⟨S, ?_, KX_rf (by decide), fun _ _ _ => rfl, by rw [hc, hs], ?_⟩
    · simp only [n_X1_bury, q5, hs, Option.map_none, ob_s, if_true]
    · have : kilS sg (fun j => j == k) = sg := by
        unfold kilS
        have e : ∀ x ∈ sg, ((x.1, x.2.map fun p => (p.1, p.2 || p.1 == k)) : SgV) = x := fun x hx => by
          have hno := sgO_no hs hx
          refine Prod.ext rfl ?_
          have : x.2.map (fun p => (p.1, p.2 || p.1 == k)) = x.2.map id := List.map_congr_left fun p hp => by
            obtain ⟨p1, p2⟩ := p
            cases p2 with
            | true => rfl
            | false =>
              have : p1 ≠ k := fun z => hno (z ▸ hp)
              simp [beq_false_of_ne this]
          rw [this, List.map_id]
        exact (List.map_congr_left e).trans (List.map_id sg)
      rw [this]; exact h
  | some d =>
    obtain ⟨x, hx, rfl, hk⟩ := sgO_in hs
    obtain ⟨y1, y2, y3, y4⟩ := h.2.2 x hx
    have hc' : S.1 (g.2 9 k) = some (cO 5 [vR (some (g.2 2 k)), vR (some (g.2 2 e.1)), vI e.2.1, vI (nI e.2.2.1), vR (some (g.2 10 k)), vR (some (g.2 12 x.1))]) := by rw [hc, hs]; rfl
    have n1 : g.2 9 k ≠ g.2 13 x.1 := fun z => by rw [z, y4] at ho; cases ho
    have n2 : g.2 9 k ≠ g.2 12 x.1 := fun z => by rw [z, y3] at ho; cases ho
    have n3 : g.2 12 x.1 ≠ g.2 13 x.1 := fun z => by rw [z, y4] at y3; cases y3
    have g70 : gR S (some (g.2 12 x.1)) 7 0 = some (some (g.2 13 x.1)) := by rw [gR_e y1]; rfl
    have hlv : (k, false) ∈ lvS x := List.mem_filter.mpr ⟨hk, rfl⟩
    obtain ⟨S1, a1, a2, a3⟩ := al_removeO y2 (x := some (g.2 9 k)) (grc_o hc') (List.mem_map.mpr ⟨_, hlv, rfl⟩)
    have c1 : S1.1 (g.2 9 k) = some (cO 5 [vR (some (g.2 2 k)), vR (some (g.2 2 e.1)), vI e.2.1, vI (nI e.2.2.1), vR (some (g.2 10 k)), vR (some (g.2 12 x.1))]) := by rw [a3.1 _ n1]; exact hc'
    have s1 : S1.1 (g.2 12 x.1) = some (sgC g x) := by rw [a3.1 _ n3]; exact y1
    obtain ⟨D, eD⟩ : ∃ D, D = x.2.countP fun p => p.2 := ⟨_, rfl⟩
    obtain ⟨S2, e2⟩ : ∃ S2, S2 = sup S1 (g.2 12 x.1) (cO 7 [vR (some (g.2 13 x.1)), vI (nI (D + 1))]) := ⟨_, rfl⟩
    have p2 : pI .int S1 (some (g.2 12 x.1)) 7 1 (nI D + 1) = some S2 := by
      rw [e2, pI_e s1, if_pos (by simp), nI_1]; rfl
    have c2 : S2.1 (g.2 9 k) = some (cO 5 [vR (some (g.2 2 k)), vR (some (g.2 2 e.1)), vI e.2.1, vI (nI e.2.2.1), vR (some (g.2 10 k)), vR (some (g.2 12 x.1))]) := by rw [e2, sup_ne _ _ n2]; exact c1
    obtain ⟨S3, e3⟩ : ∃ S3, S3 = sup S2 (g.2 9 k) (enC g k e none) := ⟨_, rfl⟩
    have p3 : pR S2 (some (g.2 9 k)) 5 5 none = some S3 := by
      rw [e3, pR_e c2, if_pos (by simp)]; rfl
    have g5 : gR S1 (some (g.2 9 k)) 5 5 = some (some (g.2 12 x.1)) := by rw [gR_e c1]; rfl
    have g71 : gI S1 (some (g.2 12 x.1)) 7 1 = some (nI D) := by rw [gI_e s1, eD]; rfl
    have o3 : ∀ a, a ≠ g.2 9 k → a ≠ g.2 12 x.1 → a ≠ g.2 13 x.1 → S3.1 a = S.1 a := fun a q1 q2 q3 => by rw [e3, sup_ne _ _ q1, e2, sup_ne _ _ q2, a3.1 a q3]
    have x3 : KX [0, 9, 12, 13] [] 0 g S g S3 := by
      have z1 : KX [0, 9, 12, 13] [] 0 g S g S1 := KX_ch1 a3 y4
      have z2 : KX [0, 9, 12, 13] [] 0 g S1 g S2 := by rw [e2]; exact KX_ch1 (Ch_sup _) y3
      have z3 : KX [0, 9, 12, 13] [] 0 g S2 g S3 := by rw [e3]; exact KX_ch1 (Ch_sup _) ho
      exact KX_n (KX_tr (KX_tr z1 z2) z3) (by decide)
    refine ⟨S3, ?_, x3, fun a q1 q2 => o3 a q1 (fun z => by rw [z, y3] at q2; cases q2) (fun z => by rw [z, y4] at q2; cases q2), by rw [e3]; exact sup_at _ _ _, ?_⟩
    · simp only [n_X1_bury, q5, hs, Option.map_some, ob_s, reduceCtorEq, if_false, g70, y2.cl, gd_t, a1, bn_s, g5, g71, p2, p3]
    · obtain ⟨h1, h2, h3⟩ := h
      refine ⟨?_, h2, fun z hz => ?_⟩
      · have : (kilS sg fun j => j == k).map (fun x => some (g.2 12 x.1)) = sg.map fun x => some (g.2 12 x.1) := by simp [kilS, Function.comp_def]
        rw [this]
        exact h1.fr (o3 _ (fun z => by rw [z, ho] at h2; cases h2) (fun z => by rw [z, y3] at h2; cases h2) (fun z => by rw [z, y4] at h2; cases h2))
      · obtain ⟨y, hy, rfl⟩ := List.mem_map.mp hz
        obtain ⟨w1, w2, w3, w4⟩ := h3 y hy
        by_cases exy : y.1 = x.1
        · have : y = x := by
            obtain ⟨i, hi⟩ := List.mem_iff_getElem?.mp hy
            obtain ⟨j, hj⟩ := List.mem_iff_getElem?.mp hx
            have hi' : (sg.map (·.1))[i]? = some y.1 := by rw [List.getElem?_map, hi]; rfl
            have hj' : (sg.map (·.1))[j]? = some x.1 := by rw [List.getElem?_map, hj]; rfl
            have : i = j := (List.getElem?_inj (List.getElem?_eq_some_iff.mp hi').1 hU.1).mp (by rw [hi', hj', exy])
            subst this
            rw [hi] at hj; cases hj; rfl
          subst this
          refine ⟨?_, ?_, w3, w4⟩
          · show S3.1 (g.2 12 y.1) = some (cO 7 [vR (some (g.2 13 y.1)), vI (nI ((y.2.map fun p => (p.1, p.2 || p.1 == k)).countP fun p => p.2))])
            rw [cnt_kil (hnd y hy) hk, ← eD, e3, sup_ne _ _ (Ne.symm n2), e2]
            exact sup_at _ _ _
          · show isAL S3 (g.2 13 y.1) ((lvS (y.1, y.2.map fun p => (p.1, p.2 || p.1 == k))).map fun p => some (g.2 9 p.1))
            rw [lvS_kil y fun j => j == k, ← erase_filt (ad := g.2 9)]
            · exact a2.fr (by rw [e3, sup_ne _ _ (Ne.symm n1), e2, sup_ne _ _ (Ne.symm n3)])
            · exact List.Sublist.nodup (List.Sublist.map _ List.filter_sublist) (hnd y hy)
            · intro p hp hz2
              have q1 := hadr y hy p hp
              rw [hz2, ho] at q1
              exact (congrArg (·.2) q1).symm
        · have hno : (k, false) ∉ y.2 := fun z => exy (hU.2 y hy x hx k z hk)
          have ey : ((y.1, y.2.map fun p => (p.1, p.2 || p.1 == k)) : SgV) = y := Prod.ext rfl (kil_id hno)
          rw [ey]
          have d12 : g.2 12 y.1 ≠ g.2 12 x.1 := fun z => by rw [z, y3] at w3; exact exy (congrArg (·.2) w3).symm
          have d13 : g.2 13 y.1 ≠ g.2 13 x.1 := fun z => by rw [z, y4] at w4; exact exy (congrArg (·.2) w4).symm
          exact ⟨(o3 _ (fun z => by rw [z, ho] at w3; cases w3) d12 (fun z => by rw [z, y4] at w3; cases w3)).trans w1, w2.fr (o3 _ (fun z => by rw [z, ho] at w4; cases w4) (fun z => by rw [z, y3] at w4; cases w4) d13), w3, w4⟩
end
