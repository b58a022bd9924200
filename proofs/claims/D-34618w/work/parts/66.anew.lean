/-! the reference's questions: anew -/
section
variable {M : Nat} {S : St} {u v w : MM} {f f' : Fl} {rs rs' : List RtV} {en : En} {ac : List AcV} {s : Sg} {rk rk' : Nat → Nat} {l : List Int32} {x y : Int32} {n : Nat}
theorem ofn_pos {l : List Int32} {k : Nat} (hk : k < l.length) (x : Int32) : decide (0 < ofn (l.take (k + 1)) x) = (decide (0 < ofn (l.take k) x) || l[k] == x) := by
  have ht : l.take (k + 1) = l.take k ++ [l[k]] := List.take_succ_eq_append_getElem hk
  rw [ht]
  simp only [ofn, List.countP_append, List.countP_cons, List.countP_nil]
  by_cases e : l[k] = x
  · simp [e]
  · simp [beq_false_of_ne e]
/-- the words just taken -/
theorem q_anewW (k17 : St → Option Nat → Int32 → Int32 → Int32 → Int32 → Int32 → Int32 → Int32 → Option (Int32 × St)) (h1 : v.1 44 = nI l.length) (h2 : ∀ j x, l[j]? = some x → v.2 32 j = x) (h3 : l.length ≤ 20) (p x y z c : Int32) (a k : Nat) : n_X3_answersAnew_b146 k17 FU (mput M S v) (some M) p x y z c (nI a) (nI k) 0 (b2i (y == -1)) 0 = k17 (mput M S v) (some M) p x y z c (nI (a + if hasW l x y then 1 else 0)) (nI (k + 1)) := by
  have key := lp_u0 (fun m j => n_X3_answersAnew_b146 k17 m (mput M S v) (some M) p x y z c (nI a) (nI k) (b2i (decide (0 < ofn (l.take j) x))) (b2i (y == -1 || decide (0 < ofn (l.take j) y))) (nI j)) l.length (k17 (mput M S v) (some M) p x y z c (nI (a + if hasW l x y then 1 else 0)) (nI (k + 1))) ?_ ?_ (m := FU) (by simp only [FU]; omega)
  · have e0 : ∀ x, decide (0 < ofn (l.take 0) x) = false := fun x => by simp [ofn]
    simp only [e0, Bool.or_false, b2i_f, nI_0] at key
    exact key
  · intro m j hj
    have hj2 : l[j]? = some l[j] := List.getElem?_eq_getElem hj
    simp only [n_X3_answersAnew_b146, n_X3_answersAnew_b171, n_X3_answersAnew_b176, n_X3_answersAnew_b194, n_X3_answersAnew_b199, mI_44, ob_s, h1, nI_leE (show l.length < 2 ^ 31 by omega) (show j < 2 ^ 31 by omega), mR_45, ma_32 (show j < 20 by omega), h2 j _ hj2, b2i_0, nI_1, ofn_pos hj]
    rw [if_neg (by omega)]
    obtain ⟨q, eq⟩ : ∃ q, q = l[j] := ⟨_, rfl⟩
    simp only [← eq]
    rw [← Bool.or_assoc]
    have cx : ((q = x) = True ∧ (q == x) = true) ∨ ((q = x) = False ∧ (q == x) = false) := by
      by_cases e : q = x
      · exact Or.inl ⟨eq_true e, beq_iff_eq.mpr e⟩
      · exact Or.inr ⟨eq_false e, beq_false_of_ne e⟩
    have cy : ((q = y) = True ∧ (q == y) = true) ∨ ((q = y) = False ∧ (q == y) = false) := by
      by_cases e : q = y
      · exact Or.inl ⟨eq_true e, beq_iff_eq.mpr e⟩
      · exact Or.inr ⟨eq_false e, beq_false_of_ne e⟩
    obtain ⟨B1, eB1⟩ : ∃ B, B = decide (0 < ofn (l.take j) x) := ⟨_, rfl⟩
    obtain ⟨B2, eB2⟩ : ∃ B, B = (y == -1 || decide (0 < ofn (l.take j) y)) := ⟨_, rfl⟩
    rw [← eB1, ← eB2]
    rcases cx with ⟨e1, f1⟩ | ⟨e1, f1⟩ <;> rcases cy with ⟨e2, f2⟩ | ⟨e2, f2⟩ <;> rw [f1, f2] <;> simp only [e1, e2, if_true, if_false] <;> cases B1 <;> cases B2 <;> rfl
  · intro m
    simp only [n_X3_answersAnew_b146, n_X3_answersAnew_b223, n_X3_answersAnew_b224, n_X3_answersAnew_b227, mI_44, ob_s, h1, nI_leE (show l.length < 2 ^ 31 by omega) (show l.length < 2 ^ 31 by omega), Nat.le_refl, if_true, b2i_0, nI_1, List.take_length]
    rw [show hasW l x y = (decide (0 < ofn l x) && (y == -1 || decide (0 < ofn l y))) from rfl]
    rcases Bool.eq_false_or_eq_true (decide (0 < ofn l x)) with b1 | b1 <;> rcases Bool.eq_false_or_eq_true (y == -1 || decide (0 < ofn l y)) with b2 | b2 <;> simp [b1, b2, nI_1]
theorem q_anew (hI : IW s rk) (hs : RA s u) (p x y z : Int32) : ∃ v b, n_X3_answersAnew (mput M S u) (some M) p x y z = some (b, mput M S v) ∧ RO (opAnew s p x y z) b v := by
  have hII := hI
  obtain ⟨A, h6, hT, hN, hB, hE, hF, hS, hF1, hE0, hW⟩ := hII
  have hmd := hs.1.1.1
  have hmz : fMd (zF s) < 2 ^ 31 := by omega
  simp only [n_X3_answersAnew, mg_c, gd_t, q_canAsk hmd, bn_s, opAnew]
  obtain ⟨v, ev⟩ : ∃ v, v = ui u 0 (askC s p x y z) := ⟨_, rfl⟩
  have hs1 : RA s v := by rw [ev]; exact hs.th _
  rw [← ev]
  by_cases c : askC s p x y z = 0
  · rw [if_pos c]
    obtain ⟨z1, z2⟩ := foO_in h6 c
    have hc : ((b2i (askC s p x y z == 0)) = 0) = False := by rw [c]; simp [b2i]
    obtain ⟨cc, ecc⟩ : ∃ cc, cc = b2i (askC s p x y z == 0) := ⟨_, rfl⟩
    rw [← ecc] at hc ⊢
    obtain ⟨fo, efo⟩ : ∃ fo, fo = foO z := ⟨_, rfl⟩
    rw [← efo] at z1 z2 ⊢
    have hv0 : v.1 0 = 0 := by rw [ev, ui_1, if_pos rfl, c]
    have key := lp_ex (fun m k (w : MM) => n_X3_answersAnew_b17 m (mput M S w) (some M) p x y z cc (nI (cnB (anw s p x y fo) k)) (nI k)) (fun k w => RA s w ∧ w.1 0 = 0) (fun b => ∃ w, b = (nI (cnB (anw s p x y fo) (fMd (zF s))), mput M S w) ∧ RA s w ∧ w.1 0 = 0) (fMd (zF s)) ?_ ?_ FU 0 v (Nat.zero_le _) (by simp only [FU]; omega) ⟨hs1, hv0⟩
    · obtain ⟨b, k1, w, rfl, k2, k3⟩ := key
      simp only [cnB, nI_0] at k1
      exact ⟨w, _, k1, RO_ok k2 k3⟩
    · intro m k w hk ⟨g1, g2⟩
      refine Or.inl ?_
      have k60 : k < 60 := by omega
      have gg := g1
      obtain ⟨⟨hf, hr, he, ha, hsg, hw, hnn⟩, hz⟩ := gg
      have h104 : n_X3_answersAnew_b104 (n_X3_answersAnew_b17 m) (mput M S w) (some M) p x y z cc (nI (cnB (anw s p x y fo) k)) (nI k) = n_X3_answersAnew_b17 m (mput M S w) (some M) p x y z cc (nI (cnB (anw s p x y fo) k)) (nI (k + 1)) := by
        simp only [n_X3_answersAnew_b104, n_X3_answersAnew_b105, n_X3_answersAnew_b227, if_true, nI_1]
      have hno : anw s p x y fo k = false → ∃ c', (RA s c' ∧ c'.1 0 = 0) ∧ n_X3_answersAnew_b104 (n_X3_answersAnew_b17 m) (mput M S w) (some M) p x y z cc (nI (cnB (anw s p x y fo) k)) (nI k) = n_X3_answersAnew_b17 m (mput M S c') (some M) p x y z cc (nI (cnB (anw s p x y fo) (k + 1))) (nI (k + 1)) := fun hh => ⟨w, ⟨g1, g2⟩, by rw [h104]; simp [cnB, hh]⟩
      obtain ⟨v1, t0, t1, t2, t3, t4⟩ := q_takesWords (M := M) (S := S) hf hnn hF h6 hk
      have hs2 : RA s v1 := g1.ag (Ag_up t1 (by decide) (by decide))
      have hyes : ∀ B : Bool, (anw s p x y fo k = (B && mrd (zF s) p k && hasW (takW (zN s) (fMk (zF s) k)) x y)) → B = true → ∃ c', (RA s c' ∧ c'.1 0 = 0) ∧ n_X3_answersAnew_b100 (n_X3_answersAnew_b17 m) (mput M S w) (some M) p x y z cc (nI (cnB (anw s p x y fo) k)) (nI k) = n_X3_answersAnew_b17 m (mput M S c') (some M) p x y z cc (nI (cnB (anw s p x y fo) (k + 1))) (nI (k + 1)) := by
        intro B hB1 hB2
        subst hB2
        rw [Bool.true_and] at hB1
        simp only [n_X3_answersAnew_b100, n_X3_answersAnew_b105, n_X3_answersAnew_b141, n_X3_answersAnew_b227, show ((1 : Int32) = 0) = False by simp, if_false, mg_c, gd_t, q_mayReadAt hf A h6 hk, bn_s, b2i_0, t0, nI_1]
        rcases Bool.eq_false_or_eq_true (mrd (zF s) p k) with b3 | b3
        · refine ⟨v1, ⟨hs2, by rw [t1.1 0 (by decide)]; exact g2⟩, ?_⟩
          rw [if_neg (by rw [b3]; decide)]
          have hq := q_anewW (M := M) (S := S) (n_X3_answersAnew_b17 m) t2 t3 t4 p x y z cc (cnB (anw s p x y fo) k) k
          have e : cnB (anw s p x y fo) (k + 1) = cnB (anw s p x y fo) k + if hasW (takW (zN s) (fMk (zF s) k)) x y then 1 else 0 := by simp only [cnB, hB1, b3, Bool.true_and]
          rw [e, ← hq]
          by_cases e1 : y = -1
          · rw [if_pos e1, show (y == -1) = true by simp [e1]]; rfl
          · rw [if_neg e1, beq_false_of_ne e1]; rfl
        · refine ⟨w, ⟨g1, g2⟩, ?_⟩
          rw [if_pos b3]
          simp [cnB, hB1, b3]
      simp only [n_X3_answersAnew_b17, mI_2, ob_s, hf.1, nI_leE hmz (show k < 2 ^ 31 by omega), hc, if_false, mg_c, gd_t, q_over hf A hr hT.toS h6 hk, bn_s]
      rw [if_neg (by omega)]
      cases ho : ovr (zF s) (zR s) k with
      | none =>
        have h1 : anw s p x y fo k = false := by unfold anw; rw [ovr_none ho]
        simp only [prI_n, if_true]
        exact hno h1
      | some i =>
        obtain ⟨r, hri, hab⟩ := ovr_some A hN hk ho
        have hil := (List.getElem?_eq_some_iff.mp hri).1
        have h3 := hT.1
        have i4 : i < 4 := by omega
        have hrb := (hT.2 r (List.mem_of_getElem? hri)).1
        simp only [prI_s, nI_e1 (show i < 2 ^ 31 by omega), if_false, mR_4, ob_s, ma_1 k60, hf.fo hk, b2i_0]
        rcases Bool.eq_false_or_eq_true (fFo (zF s) k) with b1 | b1
        · have h1 : anw s p x y fo k = false := by unfold anw; rw [hab]; simp [b1]
          simp only [b1, Bool.true_eq_false, if_false]
          exact hno h1
        · simp only [b1, if_true]
          cases hfo : fo with
          | none =>
            rw [hfo] at z1
            subst z1
            have h1 : anw s p x y fo k = (true && mrd (zF s) p k && hasW (takW (zN s) (fMk (zF s) k)) x y) := by unfold anw; rw [hab, hfo]; simp [b1]
            simp only [prI_n, if_true]
            rw [← hfo]
            exact hyes true h1 rfl
          | some a =>
            have ha := z2 a hfo
            rw [hfo] at z1
            rw [← hfo]
            have h1 : anw s p x y fo k = ((blw (zF s) k a && (a == r.1 || blw (zF s) a r.1)) && mrd (zF s) p k && hasW (takW (zN s) (fMk (zF s) k)) x y) := by unfold anw; rw [hab, hfo]; simp [b1]
            have hz1 : ((z = -1) = False) := by rw [z1, prI_s, nI_e1 (show a < 2 ^ 31 by omega)]
            have hbz : n_X3_isBelow (mput M S w) (some M) (nI k) z = some (b2i (blw (zF s) k a), mput M S w) := by rw [z1, prI_s]; exact q_isBelow hf A h6 hk (show a < 60 by omega)
            have hbr : n_X3_isBelow (mput M S w) (some M) z (nI r.1) = some (b2i (blw (zF s) a r.1), mput M S w) := by rw [z1, prI_s]; exact q_isBelow hf A h6 ha (show r.1 < 60 by omega)
            have hzr : (z = nI r.1) = (a = r.1) := by rw [z1, prI_s, nI_eqE (show a < 2 ^ 31 by omega) (show r.1 < 2 ^ 31 by omega)]
            simp only [hz1, if_false, mg_c, gd_t, hbz, bn_s, b2i_0, mR_13, ob_s, ma_9 i4, hr.at hri, hzr]
            rcases Bool.eq_false_or_eq_true (blw (zF s) k a) with b2 | b2
            · simp only [b2, Bool.true_eq_false, if_false]
              by_cases e : a = r.1
              · rw [if_pos e]
                exact hyes _ h1 (by rw [b2, beq_iff_eq.mpr e]; rfl)
              · rw [if_neg e]
                simp only [mg_c, gd_t, hbr, bn_s, b2i_0]
                rcases Bool.eq_false_or_eq_true (blw (zF s) a r.1) with b3 | b3
                · rw [if_neg (by rw [b3]; decide)]
                  exact hyes _ h1 (by simp [b2, b3])
                · rw [if_pos b3]
                  exact hno (by rw [h1]; simp [b3, beq_false_of_ne e])
            · simp only [b2, if_true]
              exact hno (by rw [h1]; simp [b2])
    · intro m w ⟨g1, g2⟩
      refine ⟨_, ?_, w, rfl, g1, g2⟩
      simp only [n_X3_answersAnew_b17, mI_2, ob_s, g1.1.1.1, nI_leE hmz hmz, Nat.le_refl, if_true, rt_i, id]
  · rw [if_neg c]
    refine ⟨v, 0, ?_, by rw [ev]; exact askC_no c hs 0⟩
    obtain ⟨m, hFU⟩ : ∃ m, FU = m + 1 := ⟨99999, rfl⟩
    rw [hFU]
    have : ((b2i (askC s p x y z == 0)) = 0) = True := by rw [beq_false_of_ne c]; simp [b2i]
    simp only [n_X3_answersAnew_b17, mI_2, ob_s, this, if_true, rt_i, id, ite_self]
end
