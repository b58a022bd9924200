/-! the reference's doings: roots and their notices -/
section
variable {M : Nat} {S : St} {u v : MM} {f : Fl} {rk : Nat → Nat} {rs : List RtV} {en : En} {ac : List AcV}
/-- roots as they can be -/
def RB (f : Fl) (r : RtV) : Prop := r.1 < fMd f ∧ r.2.1.length ≤ 8 ∧ (∀ p ∈ r.2.1, p.1 < 3 ∧ p.2 < fMd f) ∧ (r.2.2.1 = true → r.2.1 = []) ∧ (∀ l, r.2.2.2.1 = some l → l ≠ [] ∧ l.Nodup ∧ ∀ x ∈ l, x < fMd f)
def RT (f : Fl) (rs : List RtV) : Prop := rs.length ≤ 3 ∧ ∀ r ∈ rs, RB f r
theorem RT.toS (h : RT f rs) : RS f rs := ⟨h.1, fun r hr => (h.2 r hr).1⟩
theorem RB.cl {r : RtV} (h : RB f r) (h6 : fMd f ≤ 60) {l : List Nat} (hl : r.2.2.2.1 = some l) : l.length ≤ 60 := by
  obtain ⟨-, h1, h2⟩ := h.2.2.2.2 l hl
  exact Nat.le_trans (nd_len _ l h1 h2) h6
theorem RRt_loc {r : RtV} {j : Nat} (h : RRt r j u) (hb : r.2.1.length ≤ 8) (hc : ∀ l, r.2.2.2.1 = some l → l.length ≤ 60) (g1 : ∀ p ∈ [9, 10, 13, 14, 15], v.2 p j = u.2 p j) (g2 : ∀ p ∈ [11, 12], ∀ q, q < 8 → v.2 p (8 * j + q) = u.2 p (8 * j + q)) (g3 : ∀ p ∈ [16, 17], ∀ q, q < 60 → v.2 p (60 * j + q) = u.2 p (60 * j + q)) : RRt r j v := by
  obtain ⟨h1, h2, h3, h4, h5, h6, h7⟩ := h
  refine ⟨(g1 9 (by decide)).trans h1, (g1 10 (by decide)).trans h2, fun q p hp => ?_, (g1 13 (by decide)).trans h4, (g1 14 (by decide)).trans h5, fun l hl => ⟨(g1 15 (by decide)).trans (h6 l hl).1, fun q n hn => ?_⟩, fun n hn => (g3 17 (by decide) n hn).trans (h7 n hn)⟩
  · have hq : q < 8 := by
      have := (List.getElem?_eq_some_iff.mp hp).1
      omega
    exact ⟨(g2 11 (by decide) q hq).trans (h3 q p hp).1, (g2 12 (by decide) q hq).trans (h3 q p hp).2⟩
  · have hq : q < 60 := by
      have h8 := (List.getElem?_eq_some_iff.mp hn).1
      have := hc l hl
      omega
    exact (g3 16 (by decide) q hq).trans ((h6 l hl).2 q n hn)
theorem RMr_set {i : Nat} {r' : RtV} (h : RMr rs u) (hi : i < rs.length) (g1 : v.1 12 = u.1 12) (g2 : ∀ j r, j ≠ i → rs[j]? = some r → RRt r j u → RRt r j v) (g3 : RRt r' i v) : RMr (rs.set i r') v := by
  refine ⟨by rw [g1, h.1, List.length_set], fun j r hj => ?_⟩
  rw [List.getElem?_set] at hj
  split at hj
  · next e =>
    subst e
    cases hj; exact g3
  · next e => exact g2 j r (fun z => e z.symm) hj (h.2 j r hj)
theorem q_comes (h : RMr rs u) (hT : RT f rs) (h6 : fMd f ≤ 60) {i : Nat} {r : RtV} (hi : rs[i]? = some r) {kd n : Nat} : ∃ v, n_X3_comes (mput M S u) (some M) (nI i) (nI kd) (nI n) = some ((), mput M S v) ∧ Ag [] [10, 11, 12, 13] u v ∧ RMr (rs.set i (telR kd n r)) v := by
  have hil : i < rs.length := (List.getElem?_eq_some_iff.mp hi).1
  have hl3 := hT.1
  have hB := hT.2 r (List.mem_of_getElem? hi)
  obtain ⟨r1, r2, r3, r4, r5, r6', r7⟩ := h.2 i r hi
  have i4 : i < 4 := by omega
  simp only [n_X3_comes, nI_e1 (show i < 2 ^ 31 by omega), if_false, mR_17, ob_s, ma_13 i4, r4, b2i_0]
  cases hfl : r.2.2.1 with
  | true =>
    have hq := hB.2.2.2.1 hfl
    refine ⟨u, by simp, Ag_rf _ _ u, ?_⟩
    have e : rs.set i (telR kd n r) = rs := by
      have : telR kd n r = r := by
        simp only [telR, hfl, Bool.true_or, if_true]
        rw [← hq, ← hfl]
      rw [this]
      refine List.ext_getElem? fun j => ?_
      rw [List.getElem?_set]
      split
      · next e => subst e; exact hi.symm
      · rfl
    rw [e]; exact h
  | false =>
    simp only [if_true, mR_14, ob_s, ma_10 i4, r2, li_8, nI_eqE (show r.2.1.length < 2 ^ 31 by have := hB.2.1; omega) (show 8 < 2 ^ 31 by decide)]
    have hother : ∀ {w : MM}, Ag [] [10, 11, 12, 13] u w → (∀ j, j ≠ i → w.2 10 j = u.2 10 j ∧ w.2 13 j = u.2 13 j) → (∀ j q, j ≠ i → q < 8 → w.2 11 (8 * j + q) = u.2 11 (8 * j + q) ∧ w.2 12 (8 * j + q) = u.2 12 (8 * j + q)) → ∀ j r, j ≠ i → rs[j]? = some r → RRt r j u → RRt r j w := by
      intro w hw g1 g2 j r0 hj hr0 hR
      have hB0 := hT.2 r0 (List.mem_of_getElem? hr0)
      refine RRt_loc hR hB0.2.1 (fun l hl => hB0.cl h6 hl) ?_ ?_ ?_
      · intro p hp
        simp only [List.mem_cons, List.not_mem_nil, or_false] at hp
        rcases hp with rfl | rfl | rfl | rfl | rfl
        · rw [hw.2 9 (by decide)]
        · exact (g1 j hj).1
        · exact (g1 j hj).2
        · rw [hw.2 14 (by decide)]
        · rw [hw.2 15 (by decide)]
      · intro p hp q hq
        simp only [List.mem_cons, List.not_mem_nil, or_false] at hp
        rcases hp with rfl | rfl
        · exact (g2 j q hj hq).1
        · exact (g2 j q hj hq).2
      · intro p hp q hq
        simp only [List.mem_cons, List.not_mem_nil, or_false] at hp
        rcases hp with rfl | rfl
        · rw [hw.2 16 (by decide)]
        · rw [hw.2 17 (by decide)]
    by_cases h8 : r.2.1.length = 8
    · rw [if_pos h8]
      have s1 := ms_10 (M := M) (S := S) (u := u) (x := 0) i4
      have s2 := ms_13 (M := M) (S := S) (u := ua u 10 i 0) true i4
      rw [show (1 : Int32) = b2i true from rfl]
      simp only [s1, ob_s, s2, mR_17]
      have ag : Ag [] [10, 11, 12, 13] u (ua (ua u 10 i 0) 13 i (b2i true)) := Ag_tr (Ag_ua u i 0 (by decide)) (Ag_ua _ i _ (by decide))
      refine ⟨_, rfl, ag, RMr_set h hil rfl (hother ag (fun j hj => ?_) (fun j q hj hq => ?_)) ?_⟩
      · simp [ua_2, hj]
      · simp [ua_2]
      · have e : telR kd n r = (r.1, [], true, r.2.2.2) := by simp [telR, h8]
        rw [e]
        refine ⟨?_, ?_, fun q p hp => by simp at hp, ?_, ?_, fun l hl => ?_, fun n hn => ?_⟩
        · simpa [ua_2] using r1
        · simp [ua_2]; decide
        · simp [ua_2]
        · simpa [ua_2] using r5
        · simpa [ua_2] using r6' l hl
        · simpa [ua_2] using r7 n hn
    · rw [if_neg h8]
      have hlt : r.2.1.length < 8 := by have := hB.2.1; omega
      have s1 := ms_11 (M := M) (S := S) (u := u) (i := 8 * i + r.2.1.length) (x := nI kd) (by omega)
      have s2 := ms_12 (M := M) (S := S) (u := ua u 11 (8 * i + r.2.1.length) (nI kd)) (i := 8 * i + r.2.1.length) (x := nI n) (by omega)
      have s3 := ms_10 (M := M) (S := S) (u := ua (ua u 11 (8 * i + r.2.1.length) (nI kd)) 12 (8 * i + r.2.1.length) (nI n)) (x := nI (r.2.1.length + 1)) i4
      simp only [mR_15, mR_14, mR_16, ob_s, ma_10 i4, ua_2, r2, nI_mul, nI_add, s1, s2]
      simp only [show ((10 : Nat) = 11) = False by decide, show ((10 : Nat) = 12) = False by decide, false_and, if_false, r2, s2, ob_s, nI_mul, nI_add, mR_14, ma_10 i4, ua_2, nI_1, s3]
      have ag : Ag [] [10, 11, 12, 13] u (ua (ua (ua u 11 (8 * i + r.2.1.length) (nI kd)) 12 (8 * i + r.2.1.length) (nI n)) 10 i (nI (r.2.1.length + 1))) := Ag_tr (Ag_tr (Ag_ua u _ _ (by decide)) (Ag_ua _ _ _ (by decide))) (Ag_ua _ _ _ (by decide))
      refine ⟨_, rfl, ag, RMr_set h hil rfl (hother ag (fun j hj => ?_) (fun j q hj hq => ?_)) ?_⟩
      · simp [ua_2, hj]
      · have hne : ¬ 8 * j + q = 8 * i + r.2.1.length := by omega
        simp [ua_2, hne]
      · have e : telR kd n r = (r.1, r.2.1 ++ [(kd, n)], r.2.2) := by simp [telR, hfl, h8]
        rw [e]
        refine ⟨?_, ?_, fun q p hp => ?_, ?_, ?_, fun l hl => ?_, fun n hn => ?_⟩
        · simpa [ua_2] using r1
        · simp [ua_2]
        · simp only at hp
          rw [List.getElem?_append] at hp
          split at hp
          · next hq =>
            have hne : ¬ q = r.2.1.length := by omega
            simpa [ua_2, hne] using r3 q p hp
          · next hq =>
            have hq2 : q = r.2.1.length := by
              have := (List.getElem?_eq_some_iff.mp hp).1
              simp at this; omega
            subst hq2
            simp at hp
            subst hp
            simp [ua_2]
        · simpa [ua_2] using (hfl ▸ r4)
        · simpa [ua_2] using r5
        · simpa [ua_2] using r6' l hl
        · simpa [ua_2] using r7 n hn
theorem q_comes0 (kd n : Int32) : n_X3_comes (mput M S u) (some M) (-1) kd n = some ((), mput M S u) := by
  simp only [n_X3_comes, if_true]
theorem q_fails (x : Int32) : n_X3_fails (mput M S u) (some M) x = some (0, mput M S (ui u 0 x)) := by
  simp only [n_X3_fails, mw_0, ob_s, rt_i, id]
/-! acts -/
def AB (f : Fl) (ac : List AcV) : Prop := (ac.map (·.1)).Nodup ∧ ∀ a ∈ ac, a.1 < fMd f
theorem AB.len (h : AB f ac) (h6 : fMd f ≤ 60) : ac.length ≤ 60 := by
  have := nd_len _ _ h.1 (fun x hx => by
    obtain ⟨a, ha, rfl⟩ := List.mem_map.mp hx
    exact h.2 a ha)
  rw [List.length_map] at this
  omega
end
