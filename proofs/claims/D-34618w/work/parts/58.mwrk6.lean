/-! the reference's work: notices are heard, crawls go on -/
section
variable {M : Nat} {S : St} {u v w : MM} {f f' : Fl} {rs rs' : List RtV} {en : En} {ac : List AcV} {s : Sg} {rk rk' : Nat → Nat}
/-- only the row of one root has changed -/
def Row (i : Nat) (u v : MM) : Prop := v.1 12 = u.1 12 ∧ v.2 9 = u.2 9 ∧ (∀ p ∈ [10, 13, 14, 15], ∀ j, j ≠ i → v.2 p j = u.2 p j) ∧ (∀ p ∈ [11, 12], ∀ j q, j ≠ i → q < 8 → v.2 p (8 * j + q) = u.2 p (8 * j + q)) ∧ ∀ p ∈ [16, 17], ∀ j q, j ≠ i → q < 60 → v.2 p (60 * j + q) = u.2 p (60 * j + q)
theorem Row_rf (i : Nat) (u : MM) : Row i u u := ⟨rfl, rfl, fun _ _ _ _ => rfl, fun _ _ _ _ _ _ => rfl, fun _ _ _ _ _ _ => rfl⟩
theorem Row_tr {i : Nat} (h : Row i u v) (g : Row i v w) : Row i u w := ⟨g.1.trans h.1, g.2.1.trans h.2.1, fun p hp j hj => (g.2.2.1 p hp j hj).trans (h.2.2.1 p hp j hj), fun p hp j q hj hq => (g.2.2.2.1 p hp j q hj hq).trans (h.2.2.2.1 p hp j q hj hq), fun p hp j q hj hq => (g.2.2.2.2 p hp j q hj hq).trans (h.2.2.2.2 p hp j q hj hq)⟩
theorem Row_ag {I P : List Nat} {i : Nat} (g : Ag I P u v) (h1 : 12 ∉ I := by decide) (h2 : ∀ p, p < 9 → p + 9 ∉ P := by decide) : Row i u v := by
  refine ⟨g.1 _ h1, g.2 9 (h2 0 (by decide)), fun p hp j _ => ?_, fun p hp j q _ _ => ?_, fun p hp j q _ _ => ?_⟩
  · simp only [List.mem_cons, List.not_mem_nil, or_false] at hp
    rcases hp with rfl | rfl | rfl | rfl
    · rw [g.2 10 (h2 1 (by decide))]
    · rw [g.2 13 (h2 4 (by decide))]
    · rw [g.2 14 (h2 5 (by decide))]
    · rw [g.2 15 (h2 6 (by decide))]
  · simp only [List.mem_cons, List.not_mem_nil, or_false] at hp
    rcases hp with rfl | rfl
    · rw [g.2 11 (h2 2 (by decide))]
    · rw [g.2 12 (h2 3 (by decide))]
  · simp only [List.mem_cons, List.not_mem_nil, or_false] at hp
    rcases hp with rfl | rfl
    · rw [g.2 16 (h2 7 (by decide))]
    · rw [g.2 17 (h2 8 (by decide))]
theorem Row_one {i p : Nat} (x : Int32) (hp : p ∈ [10, 13, 14, 15]) : Row i u (ua u p i x) := by
  refine ⟨rfl, ?_, fun q hq j hj => ?_, fun q hq j r hj _ => ?_, fun q hq j r hj _ => ?_⟩
  · funext j
    simp only [List.mem_cons, List.not_mem_nil, or_false] at hp
    rcases hp with rfl | rfl | rfl | rfl <;> simp [ua_2]
  · rw [ua_2, if_neg (by simp [hj])]
  · simp only [List.mem_cons, List.not_mem_nil, or_false] at hp hq
    rcases hp with rfl | rfl | rfl | rfl <;> rcases hq with rfl | rfl <;> simp [ua_2]
  · simp only [List.mem_cons, List.not_mem_nil, or_false] at hp hq
    rcases hp with rfl | rfl | rfl | rfl <;> rcases hq with rfl | rfl <;> simp [ua_2]
theorem Row_8 {i p q0 : Nat} (x : Int32) (hp : p ∈ [11, 12]) (h0 : q0 < 8) : Row i u (ua u p (8 * i + q0) x) := by
  refine ⟨rfl, ?_, fun q hq j hj => ?_, fun q hq j r hj hr => ?_, fun q hq j r hj _ => ?_⟩
  · funext j
    simp only [List.mem_cons, List.not_mem_nil, or_false] at hp
    rcases hp with rfl | rfl <;> simp [ua_2]
  · simp only [List.mem_cons, List.not_mem_nil, or_false] at hp hq
    rcases hp with rfl | rfl <;> rcases hq with rfl | rfl | rfl | rfl <;> simp [ua_2]
  · have : ¬ 8 * j + r = 8 * i + q0 := by omega
    rw [ua_2, if_neg (by simp [this])]
  · simp only [List.mem_cons, List.not_mem_nil, or_false] at hp hq
    rcases hp with rfl | rfl <;> rcases hq with rfl | rfl <;> simp [ua_2]
theorem Row_60 {i p q0 : Nat} (x : Int32) (hp : p ∈ [16, 17]) (h0 : q0 < 60) : Row i u (ua u p (60 * i + q0) x) := by
  refine ⟨rfl, ?_, fun q hq j hj => ?_, fun q hq j r hj hr => ?_, fun q hq j r hj hr => ?_⟩
  · funext j
    simp only [List.mem_cons, List.not_mem_nil, or_false] at hp
    rcases hp with rfl | rfl <;> simp [ua_2]
  · simp only [List.mem_cons, List.not_mem_nil, or_false] at hp hq
    rcases hp with rfl | rfl <;> rcases hq with rfl | rfl | rfl | rfl <;> simp [ua_2]
  · simp only [List.mem_cons, List.not_mem_nil, or_false] at hp hq
    rcases hp with rfl | rfl <;> rcases hq with rfl | rfl <;> simp [ua_2]
  · have : ¬ 60 * j + r = 60 * i + q0 := by omega
    rw [ua_2, if_neg (by simp [this])]
theorem RMr_row {i : Nat} {r' : RtV} (h : RMr rs u) (hT : RT f rs) (h6 : fMd f ≤ 60) (hi : i < rs.length) (g : Row i u v) (g3 : RRt r' i v) : RMr (rs.set i r') v := by
  refine RMr_set h hi g.1 (fun j r hj hr hR => ?_) g3
  have hB := hT.2 r (List.mem_of_getElem? hr)
  refine RRt_loc hR hB.2.1 (fun l hl => hB.cl h6 hl) (fun p hp => ?_) (fun p hp q hq => g.2.2.2.1 p hp j q hj hq) (fun p hp q hq => g.2.2.2.2 p hp j q hj hq)
  simp only [List.mem_cons, List.not_mem_nil, or_false] at hp
  rcases hp with rfl | rfl | rfl | rfl | rfl
  · rw [g.2.1]
  · exact g.2.2.1 10 (by decide) j hj
  · exact g.2.2.1 13 (by decide) j hj
  · exact g.2.2.1 14 (by decide) j hj
  · exact g.2.2.1 15 (by decide) j hj
/-- a notice is heard -/
theorem q_notes (hI : IW s rk) (hs : RA s u) {i : Nat} {r : RtV} (hi : (zR s)[i]? = some r) (ht : r.2.2.1 = true ∨ r.2.1 ≠ []) : ∃ v, n_X3_notes (mput M S u) (some M) (nI i) = some ((), mput M S v) ∧ v.1 0 = u.1 0 ∧ RA (hear s r) v := by
  obtain ⟨A, h6, hT, hN, hB, hE, hF, hS, hF1, hE0, hW⟩ := hI
  obtain ⟨⟨hf, hr, he, ha, hsg, hw, hnn⟩, hz⟩ := hs
  have hil := (List.getElem?_eq_some_iff.mp hi).1
  have h3 := hT.1
  have i4 : i < 4 := by omega
  have hBr := hT.2 r (List.mem_of_getElem? hi)
  obtain ⟨r1, r2, r3, r4, r5, r6', r7⟩ := hr.2 i r hi
  simp only [n_X3_notes, mR_17, ob_s, ma_13 i4, r4, b2i_0]
  cases hfl : r.2.2.1 with
  | true =>
    simp only [Bool.true_eq_false, if_false]
    obtain ⟨v1, z1⟩ : ∃ x, x = ua u 13 i (b2i false) := ⟨_, rfl⟩
    have t1 := ms_13 (M := M) (S := S) (u := u) false i4
    rw [← z1] at t1
    have a1 : Ag [] [13] u v1 := by rw [z1]; exact Ag_ua _ _ _ (by decide)
    have hr1 : RMr ((zR s).set i (r.1, r.2.1, false, r.2.2.2)) v1 := by
      refine RMr_row hr hT h6 hil (by rw [z1]; exact Row_one _ (by decide)) ⟨?_, ?_, fun q p hp => ?_, ?_, ?_, fun l hl => ?_, fun n hn => ?_⟩
      · rw [a1.2 9 (by decide)]; exact r1
      · rw [a1.2 10 (by decide)]; exact r2
      · rw [a1.2 11 (by decide), a1.2 12 (by decide)]; exact r3 q p hp
      · rw [z1, ua_2, if_pos ⟨rfl, rfl⟩]
      · rw [a1.2 14 (by decide)]; exact r5
      · rw [a1.2 15 (by decide), a1.2 16 (by decide)]; exact r6' l hl
      · rw [a1.2 17 (by decide)]; exact r7 n hn
    have hT1 : RT (zF s) ((zR s).set i (r.1, r.2.1, false, r.2.2.2)) := by
      refine ⟨by simpa using h3, fun x hx => ?_⟩
      rcases List.mem_or_eq_of_mem_set hx with z | z
      · exact hT.2 x z
      · subst z; exact ⟨hBr.1, hBr.2.1, hBr.2.2.1, fun z => by simp at z, hBr.2.2.2.2⟩
    obtain ⟨v2, b1, b2, b3⟩ := q_beginsCrawl (M := M) (S := S) hr1 hT1 h6 (i := i) (r := (r.1, r.2.1, false, r.2.2.2)) (by simp [hil])
    have eh : hear s r = wR s (updR (zR s) r.1 fun r => begR (r.1, r.2.1, false, r.2.2.2)) := by unfold hear; rw [if_pos hfl]
    rw [eh]
    refine ⟨v2, ?_, (by rw [b2.1 0 (by decide), a1.1 0 (by decide)]), ⟨(hf.ag a1).ag b2, ?_, (he.ag a1).ag b2, (ha.ag a1).ag b2, (hsg.ag a1).ag b2, (hw.ag a1).ag b2, (hnn.ag a1).ag b2⟩, (hz.ag a1).ag b2⟩
    · rw [show (0 : Int32) = b2i false from rfl, t1]
      simp only [ob_s, mg_c, gd_t, b1, bn_s]
    · rw [List.set_set] at b3
      show RMr (updR (zR s) r.1 fun r => begR (r.1, r.2.1, false, r.2.2.2)) v2
      rw [updR_set hN.1 hi]; exact b3
  | false =>
    cases hq : r.2.1 with
    | nil => rcases ht with z | z
             · rw [hfl] at z; cases z
             · exact absurd hq z
    | cons p q =>
      rw [hq] at r2 r3
      have hl8 : (p :: q).length ≤ 8 := by rw [← hq]; exact hBr.2.1
      have hl8' : q.length + 1 ≤ 8 := by simpa using hl8
      have hpb := hBr.2.2.1 p (by rw [hq]; exact List.mem_cons_self)
      obtain ⟨x1, x2⟩ := r3 0 p rfl
      simp only [Nat.add_zero] at x1 x2
      obtain ⟨v1, d1, d2, d3⟩ := q_adds (M := M) (S := S) ha hB h6 hpb.2 (p.1 == 2)
      obtain ⟨v2, z2⟩ : ∃ x, x = ua v1 10 i (nI q.length) := ⟨_, rfl⟩
      have t2 := ms_10 (M := M) (S := S) (u := v1) (x := nI q.length) i4
      rw [← z2] at t2
      have a2 : Ag [30] [10, 24, 25, 26] u v2 := by rw [z2]; exact Ag_tr (Ag_up d2 (by decide) (by decide)) (Ag_ua _ _ _ (by decide))
      have hm2 : v2.2 10 i = nI q.length := by rw [z2, ua_2, if_pos ⟨rfl, rfl⟩]
      have row2 : Row i u v2 := by rw [z2]; exact Row_tr (Row_ag d2) (Row_one _ (by decide))
      have key := lp_st (fun m k (v : MM) => n_X3_notes_b65 m (mput M S v) (some M) (nI i) (nI k)) (fun v => some ((), mput M S v)) (fun k v => Ag [] [11, 12] v2 v ∧ Row i u v ∧ Sh 11 1 (8 * i) (8 * i + k) v2 v ∧ Sh 12 1 (8 * i) (8 * i + k) v2 v) (fun v => Ag [] [11, 12] v2 v ∧ Row i u v ∧ Sh 11 1 (8 * i) (8 * i + q.length) v2 v ∧ Sh 12 1 (8 * i) (8 * i + q.length) v2 v) q.length ?_ ?_ FU 0 v2 (Nat.zero_le _) (by simp only [FU]; omega) ⟨Ag_rf _ _ _, row2, Sh_rf 11 1 (8 * i) v2, Sh_rf 12 1 (8 * i) v2⟩
      · obtain ⟨v, ⟨g1, g2, g3, g4⟩, h1⟩ := key
        rw [nI_0] at h1
        have a3 : Ag [30] [10, 11, 12, 24, 25, 26] u v := Ag_tr (Ag_up a2 (by decide) (by decide)) (Ag_up g1 (by decide) (by decide))
        have eh : hear s r = wA (wR s (updR (zR s) r.1 fun r => (r.1, q, r.2.2))) (adA (zA s) p.2 (p.1 == 2)) := by unfold hear; rw [if_neg (by rw [hfl]; decide), hq]
        rw [eh]
        refine ⟨v, ?_, (by rw [a3.1 0 (by decide)]), ⟨hf.ag a3, ?_, he.ag a3, ?_, hsg.ag a3, hw.ag a3, hnn.ag a3⟩, hz.ag a3⟩
        · simp only [if_true, mR_16, mR_15, ob_s, li_8, nI_mul, ma_12 (show 8 * i < 32 by omega), ma_11 (show 8 * i < 32 by omega), x1, x2, n_X3_notes_b50, mg_c, gd_t]
          have e2 : (nI p.1 = 2) = (p.1 = 2) := nI_eqE (a := p.1) (b := 2) (by omega) (by decide)
          have d1' : ∀ K : Unit → St → Option (Unit × St), (if nI p.1 = 2 then bn (n_X3_adds (mput M S u) (some M) (nI p.2) 2) K else bn (n_X3_adds (mput M S u) (some M) (nI p.2) 1) K) = K () (mput M S v1) := by
            intro K
            simp only [e2]
            by_cases e : p.1 = 2
            · rw [if_pos e]
              have : n_X3_adds (mput M S u) (some M) (nI p.2) 2 = some ((), mput M S v1) := by simpa [e] using d1
              rw [this, bn_s]
            · rw [if_neg e]
              have : n_X3_adds (mput M S u) (some M) (nI p.2) 1 = some ((), mput M S v1) := by simpa [beq_false_of_ne e] using d1
              rw [this, bn_s]
          rw [d1']
          have h10 : v1.2 10 i = nI (q.length + 1) := by rw [d2.2 10 (by decide)]; simpa using r2
          simp only [mR_14, ob_s, ma_10 i4, h10, nI_pred, t2, h1]
        · show RMr (updR (zR s) r.1 fun r => (r.1, q, r.2.2)) v
          rw [updR_set hN.1 hi]
          refine RMr_row hr hT h6 hil g2 ⟨?_, ?_, fun j y hy => ?_, ?_, ?_, fun l hl => ?_, fun n hn => ?_⟩
          · rw [a3.2 9 (by decide)]; exact r1
          · rw [g1.2 10 (by decide)]; exact hm2
          · have hj := (List.getElem?_eq_some_iff.mp hy).1
            simp only at hj
            rw [Sh_mi g3 (by omega) (by omega), Sh_mi g4 (by omega) (by omega), a2.2 11 (by decide), a2.2 12 (by decide)]
            exact r3 (j + 1) y (by simpa using hy)
          · rw [a3.2 13 (by decide)]; exact r4
          · rw [a3.2 14 (by decide)]; exact r5
          · rw [a3.2 15 (by decide), a3.2 16 (by decide)]; exact r6' l hl
          · rw [a3.2 17 (by decide)]; exact r7 n hn
        · show RMa (adA (zA s) p.2 (p.1 == 2)) v
          have a4 : Ag [] [10, 11, 12] v1 v := by
            refine Ag_tr ?_ (Ag_up g1 (by decide) (by decide))
            rw [z2]; exact Ag_ua _ _ _ (by decide)
          exact d3.ag a4
      · intro m k v hk ⟨g1, g2, g3, g4⟩
        have t3 := ms_11 (M := M) (S := S) (u := v) (i := 8 * i + k) (x := v.2 11 (8 * i + k + 1)) (by omega)
        have t4 := ms_12 (M := M) (S := S) (u := ua v 11 (8 * i + k) (v.2 11 (8 * i + k + 1))) (i := 8 * i + k) (x := v.2 12 (8 * i + k + 1)) (by omega)
        refine ⟨ua (ua v 11 (8 * i + k) (v.2 11 (8 * i + k + 1))) 12 (8 * i + k) (v.2 12 (8 * i + k + 1)), ⟨Ag_tr (Ag_tr g1 (Ag_ua _ _ _ (by decide))) (Ag_ua _ _ _ (by decide)), Row_tr (Row_tr g2 (Row_8 _ (by decide) (by omega))) (Row_8 _ (by decide) (by omega)), Sh_ot (Sh_st (k := 8 * i + k) g3 (by omega) (by decide)) (by decide), Sh_st (k := 8 * i + k) (Sh_ot g4 (by decide)) (by omega) (by decide)⟩, ?_⟩
        simp only [n_X3_notes_b65, mR_14, ob_s, ma_10 i4, g1.2 10 (by decide), hm2, nI_leE (show q.length < 2 ^ 31 by omega) (show k < 2 ^ 31 by omega), mR_15, mR_16, li_8, nI_mul, nI_add, nI_1, ma_11 (show 8 * i + k + 1 < 32 by omega), t3, ma_12 (show 8 * i + k + 1 < 32 by omega)]
        rw [if_neg (by omega), show (ua v 11 (8 * i + k) (v.2 11 (8 * i + k + 1))).2 12 (8 * i + k + 1) = v.2 12 (8 * i + k + 1) by rw [ua_2, if_neg (by simp)], t4]
        rfl
      · intro m v hv
        refine ⟨v, hv, ?_⟩
        simp only [n_X3_notes_b65, mR_14, ob_s, ma_10 i4, hv.1.2 10 (by decide), hm2, nI_leE (show q.length < 2 ^ 31 by omega) (show q.length < 2 ^ 31 by omega), Nat.le_refl, if_true]
theorem q_isWaiting {i n : Nat} {l : List Nat} (i4 : i < 4) (h1 : u.2 15 i = nI l.length) (h2 : ∀ q x, l[q]? = some x → u.2 16 (60 * i + q) = nI x) (hl : l.length ≤ 60) (hb : ∀ x ∈ l, x < 60) (hn : n < 60) : n_X3_isWaiting (mput M S u) (some M) (nI i) (nI n) = some (b2i (l.any fun j => j == n), mput M S u) := by
  unfold n_X3_isWaiting
  have hz : l.length < 2 ^ 31 := by omega
  have key := lp_u0 (fun m k => n_X3_isWaiting_b5 m (mput M S u) (some M) (nI i) (nI n) (b2i ((l.take k).any fun j => j == n)) (nI k)) l.length (some (b2i ((l.take l.length).any fun j => j == n), mput M S u)) ?_ ?_ (m := FU) (by simp only [FU]; omega)
  · simp only [List.take_zero, List.any_nil, b2i_f, List.take_length, nI_0] at key
    exact key
  · intro m k hk
    have hk2 : l[k]? = some l[k] := List.getElem?_eq_getElem hk
    have ht : l.take (k + 1) = l.take k ++ [l[k]] := List.take_succ_eq_append_getElem hk
    have hbk := hb _ (List.getElem_mem hk)
    simp only [n_X3_isWaiting_b5, n_X3_isWaiting_b36, n_X3_isWaiting_b41, mR_19, ob_s, ma_15 i4, h1, nI_leE hz (show k < 2 ^ 31 by omega), mR_20, li_60, nI_mul, nI_add, ma_16 (show 60 * i + k < 240 by omega), h2 k _ hk2, nI_eqE (show l[k] < 2 ^ 31 by omega) (show n < 2 ^ 31 by omega), b2i_0, nI_1, ht, List.any_append, List.any_cons, List.any_nil, Bool.or_false]
    rw [if_neg (by omega)]
    rcases Bool.eq_false_or_eq_true ((l.take k).any fun j => j == n) with b1 | b1
    · simp [b1, b2i_t]
    · by_cases e : l[k] = n
      · simp [b1, e, b2i_t]
      · simp [b1, e, beq_false_of_ne e, b2i_f]
  · intro m
    simp only [n_X3_isWaiting_b5, mR_19, ob_s, ma_15 i4, h1, nI_leE hz hz, Nat.le_refl, if_true, rt_b, id]
end
