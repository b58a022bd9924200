/-! the reference's work: an act is performed -/
section
variable {M : Nat} {S : St} {u v w : MM} {f f' : Fl} {rs rs' : List RtV} {en : En} {ac : List AcV} {s : Sg} {rk rk' : Nat → Nat}
theorem pnd_fu {x x' : Int64} {sg : List SgV} {n : Nat} {E : EnV} (h : ∀ p ∈ plF sg 0, p.2.1 ≠ n → tb x' p.2.1 = tb x p.2.1) (h2 : ∀ p ∈ plF sg 0, p.2.1 = n → (tb x' n && true) = (tb x n && (en n).isSome)) : pnd (fu en n (some E)) x' (plF sg 0) = pnd en x (plF sg 0) := by
  unfold pnd
  refine List.map_congr_left fun p hp => ?_
  by_cases e : p.2.1 = n
  · rw [e, fu_s]
    have := h2 p hp e
    simp only [Option.isSome_some]
    rw [this]
  · rw [fu_n _ _ e, h p hp e]
theorem q_act (hI : IW s rk) (hs : RA s u) {i : Nat} {a : AcV} (hi : (zA s)[i]? = some a) : ∃ v, n_X3_acts (mput M S u) (some M) (nI i) = some ((), mput M S v) ∧ v.1 0 = u.1 0 ∧ RA (perf (wA s ((zA s).eraseIdx i)) a) v := by
  obtain ⟨A, h6, hT, hN, hB, hE, hF, hS, hF1, hE0, hW⟩ := hI
  obtain ⟨⟨hf, hr, he, ha, hsg, hw, hnn⟩, hz⟩ := hs
  have hil := (List.getElem?_eq_some_iff.mp hi).1
  have hl := hB.len h6
  have i60 : i < 60 := by omega
  obtain ⟨a1, a2, a3⟩ := ha.2 i a hi
  obtain ⟨n, dr, po⟩ := a
  simp only at a1 a2 a3
  have hn := hB.2 _ (List.mem_of_getElem? hi)
  simp only at hn
  have n60 : n < 60 := by omega
  obtain ⟨v1, c1, c2, c3⟩ := q_takesAct (M := M) (S := S) ha hl hil
  have hf1 := hf.ag c2
  have hr1 := hr.ag c2
  have he1 := he.ag c2
  have hsg1 := hsg.ag c2
  have hw1 := hw.ag c2
  have hnn1 := hnn.ag c2
  have hz1 := hz.ag c2
  have hB1 := eraseIdx_AB hB i
  obtain ⟨ac1, eac⟩ : ∃ ac1, ac1 = (zA s).eraseIdx i := ⟨_, rfl⟩
  rw [← eac] at c3 hB1 ⊢
  have e1 : (prI (ovr (zF s) (zR s) n) = -1) = ((abv (zF s) (zR s) n).isSome = false) := by
    rw [prI_none (ovr_bd hT.toS n), ← ovr_iff A hN hn]
    cases ovr (zF s) (zR s) n <;> simp
  have hd : ((if dr then (2 : Int32) else 1) = 2) = (dr = true) := by cases dr <;> simp
  have hstart : n_X3_acts (mput M S u) (some M) (nI i) = if (abv (zF s) (zR s) n).isSome = false then bn (n_X3_forgets (mput M S v1) (some M) (nI n)) fun _ S30 => some ((), S30) else if dr = true then bn (n_X3_adds (mput M S v1) (some M) (nI n) 1) fun _ S28 => some ((), S28) else if fFo (zF s) n = false then (if fLk (zF s) n = false then (if (zE s n).isSome = false then n_X3_acts_b178 (mput M S v1) (some M) (nI n) else if v1.2 21 n = nI (fEd (zF s) n) then n_X3_acts_b179 (mput M S v1) (some M) (nI n) 1 else n_X3_acts_b178 (mput M S v1) (some M) (nI n)) else bn (n_X3_adds (mput M S v1) (some M) (nI n) 1) fun _ S19 => (gR S19 (some M) 15 33).bind fun v21 => (gI S19 (some M) 15 30).bind fun v22 => (sI S19 v21 1 (v22 - 1) 1).bind fun S23 => some ((), S23)) else bn (n_X3_places (mput M S v1) (some M) (nI n)) fun _ S24 => (gR S24 (some M) 15 25).bind fun v26 => (sI S24 v26 0 (nI n) 0).bind fun S27 => n_X3_acts_b74 FU S27 (some M) (nI n) 0 := by
    simp only [n_X3_acts, mR_31, mR_32, ob_s, ma_24 i60, ma_25 i60, a1, a2, mg_c, gd_t, c1, bn_s, q_over hf1 A hr1 hT.toS h6 hn, e1, hd, mR_4, ma_1 n60, hf1.fo hn, b2i_0, mR_10, ma_7 n60, hf1.lk hn, mR_22, ma_18 n60, (he1 n n60).1, mR_25, ma_21 n60, mR_7, ma_4 n60, hf1.ed hn]
  rw [hstart]
  simp only [perf]
  rcases Bool.eq_false_or_eq_true (abv (zF s) (zR s) n).isSome with b1 | b1
  · have b1' : (abv (zF s) (zR s) n).isNone = false := by cases h : abv (zF s) (zR s) n <;> simp_all
    rw [if_neg (by rw [b1]; decide)]
    simp only [b1', Bool.false_eq_true, if_false]
    obtain ⟨par, hpar, hpm⟩ := abv_par A hn b1
    cases dr with
    | true =>
      rw [if_pos rfl]
      simp only [if_true]
      obtain ⟨v2, d1, d2, d3⟩ := q_adds (M := M) (S := S) c3 hB1 h6 hn false
      have d1' : n_X3_adds (mput M S v1) (some M) (nI n) 1 = some ((), mput M S v2) := d1
      exact ⟨v2, by rw [d1', bn_s], (by rw [d2.1 0 (by decide), c2.1 0 (by decide)]), ⟨hf1.ag d2, hr1.ag d2, he1.ag d2, d3, hsg1.ag d2, hw1.ag d2, hnn1.ag d2⟩, hz1.ag d2⟩
    | false =>
      rw [if_neg (by decide)]
      simp only [Bool.false_eq_true, if_false]
      show ∃ v, _ = some ((), mput M S v) ∧ v.1 0 = u.1 0 ∧ RA (if (!fFo (zF s) n && fLk (zF s) n) = true then wA s (ac1 ++ [(n, false, true)]) else look (wA s ac1) n) v
      have hc3 : gfit .char (v1.2 3 n) = true := by rw [hf1.nm hn]; exact (hF1 n hn).2
      obtain ⟨v2, p1, p2, p3, p4, p5, p6⟩ := q_places (M := M) (S := S) (u := v1) n60 hc3
      have hlen : ∀ k e, zE s k = some e → e.2.2.2.length ≤ 20 := fun k e hk => (hE k e hk).2.2.2
      have g19 : v2.2 19 n = nI ((fPa (zF s) n).getD 0) := by rw [p5, hf1.pa hn, hpar]; rfl
      have g20 : v2.2 20 n = fNm (zF s) n := by rw [p6, hf1.nm hn]
      rcases Bool.eq_false_or_eq_true (fFo (zF s) n) with b2 | b2
      · -- a folder
        rw [if_neg (by rw [b2]; decide)]
        simp only [b2, Bool.not_true, Bool.false_and, Bool.false_eq_true, if_false]
        obtain ⟨v3, z3⟩ : ∃ x, x = ua v2 21 n 0 := ⟨_, rfl⟩
        have t3 := ms_21 (M := M) (S := S) (u := v2) (x := 0) n60
        rw [← z3] at t3
        have a3' : Ag [] [18, 19, 20, 21] v1 v3 := by rw [z3]; exact Ag_tr (Ag_up p2 (by decide) (by decide)) (Ag_ua _ _ _ (by decide))
        obtain ⟨v4, d1, d2, d3⟩ := q_children (M := M) (S := S) (hf1.ag a3') A (c3.ag a3') hB1 h6 hn
        rw [nI_0] at d1
        have hed : eEd (zE s) n = 0 := by
          unfold eEd
          cases h : zE s n with
          | none => rfl
          | some e => exact hE0 n e h b2
        refine ⟨v4, by rw [p1]; simp only [bn_s, mR_25, ob_s, t3, d1], (by rw [d2.1 0 (by decide), a3'.1 0 (by decide), c2.1 0 (by decide)]), ⟨(hf1.ag a3').ag d2, (hr1.ag a3').ag d2, ?_, ?_, ?_, ?_, (hnn1.ag a3').ag d2⟩, (hz1.ag a3').ag d2⟩
        · have hee : RMe (zF s) (fu (zE s) n (some (lokE (zF s) (zN s) (zE s) n))) v3 := by
            refine RMe_fu he1 (fun j hj hne => ⟨fun p hp => ?_, fun q _ => by rw [a3'.2 23 (by decide)]⟩) hlen ?_ ?_ ?_ ?_ (fun z => by rw [b2] at z; cases z)
            · simp only [List.mem_cons, List.not_mem_nil, or_false] at hp
              rcases hp with rfl | rfl | rfl | rfl | rfl
              · rw [z3, ua_2, if_neg (by simp)]; exact p3 18 (by decide) j hne
              · rw [z3, ua_2, if_neg (by simp)]; exact p3 19 (by decide) j hne
              · rw [z3, ua_2, if_neg (by simp)]; exact p3 20 (by decide) j hne
              · rw [z3, ua_2, if_neg (by simp [hne]), p2.2 21 (by decide)]
              · rw [a3'.2 22 (by decide)]
            · rw [z3, ua_2, if_neg (by simp)]; exact p4
            · rw [z3, ua_2, if_neg (by simp), g19]; simp [lokE, b2]
            · rw [z3, ua_2, if_neg (by simp), g20]; simp [lokE, b2]
            · rw [z3, ua_2, if_pos ⟨rfl, rfl⟩]; simp [lokE, b2, hed]; decide
          exact hee.ag d2
        · show RMa (if fFo (zF s) n = true then lokA (zF s) n ac1 (fMd (zF s)) else ac1) v4
          rw [if_pos b2]; exact d3
        · have hnt : tb (zW s) n = false := by
            cases h : tb (zW s) n with
            | false => rfl
            | true => have := (hW n n60 h).2; rw [b2] at this; cases this
          have hx : lokW (zF s) (zE s) (zW s) n = zW s := by simp [lokW, b2]
          show RMs (fu (zE s) n (some (lokE (zF s) (zN s) (zE s) n))) (lokW (zF s) (zE s) (zW s) n) (zS s) v4
          rw [hx]
          have := (hsg1.ag a3').ag d2
          refine ⟨this.1, ?_⟩
          rw [pnd_fu (x := zW s) (fun _ _ _ => rfl) (fun p hp e => by rw [hnt]; rfl)]
          exact this.2
        · have hnt : tb (zW s) n = false := by
            cases h : tb (zW s) n with
            | false => rfl
            | true => have := (hW n n60 h).2; rw [b2] at this; cases this
          have hx : lokW (zF s) (zE s) (zW s) n = zW s := by simp [lokW, b2]
          show RMw (fu (zE s) n (some (lokE (zF s) (zN s) (zE s) n))) (lokW (zF s) (zE s) (zW s) n) v4
          rw [hx]
          intro k hk
          rw [((hw1.ag a3').ag d2) k hk]
          by_cases e : k = n
          · subst e; rw [hnt]; simp
          · rw [fu_n _ _ e]
      · -- a file
        rw [if_pos b2]
        rcases Bool.eq_false_or_eq_true (fLk (zF s) n) with b3 | b3
        · rw [if_neg (by rw [b3]; decide)]
          simp only [b2, b3, Bool.not_false, Bool.true_and, if_true]
          obtain ⟨v5, d1, d2, d3⟩ := q_adds (M := M) (S := S) c3 hB1 h6 hn false
          have d1' : n_X3_adds (mput M S v1) (some M) (nI n) 1 = some ((), mput M S v5) := d1
          have hnew : adA ac1 n false = ac1 ++ [(n, false, false)] := by
            refine adA_none ?_
            cases hq : lst (fun a : AcV => a.1 == n) ac1 ac1.length with
            | none => rfl
            | some j =>
              exfalso
              obtain ⟨-, y, hy, hyn⟩ := lst_some hq
              have hyn : y.1 = n := by simpa using hyn
              rw [eac, List.getElem?_eraseIdx] at hy
              split at hy
              · next hj => have := hB.inj hy hi hyn; omega
              · next hj => have := hB.inj hy hi hyn; omega
          rw [hnew] at d3
          have hl1 : ac1.length < 60 := by rw [eac, List.length_eraseIdx, if_pos hil]; omega
          have hlen5 : v5.1 30 = nI (ac1.length + 1) := by rw [d3.1]; simp
          have t := ms_26 (M := M) (S := S) (u := v5) (i := ac1.length) true hl1
          have a6 : Ag [] [26] v5 (ua v5 26 ac1.length (b2i true)) := Ag_ua _ _ _ (by decide)
          refine ⟨ua v5 26 ac1.length (b2i true), ?_, (by rw [a6.1 0 (by decide), d2.1 0 (by decide), c2.1 0 (by decide)]), ⟨(hf1.ag d2).ag a6, (hr1.ag d2).ag a6, (he1.ag d2).ag a6, ⟨?_, fun j b hj => ?_⟩, (hsg1.ag d2).ag a6, (hw1.ag d2).ag a6, (hnn1.ag d2).ag a6⟩, (hz1.ag d2).ag a6⟩
          · rw [d1']
            simp only [bn_s, mR_33, ob_s, mI_30, hlen5, nI_pred]
            rw [show sI (mput M S v5) (some (adr M 26)) 1 (nI ac1.length) 1 = some (mput M S (ua v5 26 ac1.length (b2i true))) from t, ob_s]
          · show v5.1 30 = nI (ac1 ++ [(n, false, true)]).length
            rw [hlen5, List.length_append]; rfl
          · rw [List.getElem?_append] at hj
            split at hj
            · next hlt =>
              have hj' : (ac1 ++ [(n, false, false)])[j]? = some b := by rw [List.getElem?_append, if_pos hlt]; exact hj
              have hne : ¬ j = ac1.length := by omega
              simpa [ua_2, hne] using d3.2 j b hj'
            · next hge =>
              have hj2 : j = ac1.length := by
                have := (List.getElem?_eq_some_iff.mp hj).1
                simp at this; omega
              subst hj2
              have hj' : (ac1 ++ [(n, false, false)])[ac1.length]? = some (n, false, false) := by simp
              simp at hj
              subst hj
              have := d3.2 _ _ hj'
              refine ⟨?_, ?_, ?_⟩
              · rw [a6.2 24 (by decide)]; exact this.1
              · rw [a6.2 25 (by decide)]; exact this.2.1
              · rw [ua_2, if_pos ⟨rfl, rfl⟩]
        · rw [if_pos b3]
          simp only [b2, b3, Bool.not_false, Bool.true_and, Bool.false_eq_true, if_false]
          have hed0 := (hF1 n hn).1
          have hedb := (hF n hn).1
          -- whether it is fresh
          have hfr : (if (zE s n).isSome = false then n_X3_acts_b178 (mput M S v1) (some M) (nI n) else if v1.2 21 n = nI (fEd (zF s) n) then n_X3_acts_b179 (mput M S v1) (some M) (nI n) 1 else n_X3_acts_b178 (mput M S v1) (some M) (nI n)) = if eEd (zE s) n = fEd (zF s) n then n_X3_acts_b179 (mput M S v1) (some M) (nI n) 1 else n_X3_acts_b178 (mput M S v1) (some M) (nI n) := by
            cases h : zE s n with
            | none =>
              have : ¬ eEd (zE s) n = fEd (zF s) n := by simp only [eEd, h]; omega
              simp [this]
            | some e =>
              have hes := hE n e h
              rw [((he1 n n60).2 e h).2.2.1]
              simp only [nI_eqE (show e.2.2.1 < 2 ^ 31 by omega) (show fEd (zF s) n < 2 ^ 31 by omega), eEd, h]
              simp
          rw [hfr]
          have hnfo : (if fFo (zF s) n = true then lokA (zF s) n ac1 (fMd (zF s)) else ac1) = ac1 := by rw [if_neg (by rw [b2]; decide)]
          by_cases b4 : eEd (zE s) n = fEd (zF s) n
          · rw [if_pos b4]
            obtain ⟨e, h⟩ : ∃ e, zE s n = some e := by
              cases h : zE s n with
              | none => simp only [eEd, h] at b4; omega
              | some e => exact ⟨e, rfl⟩
            have hx : lokW (zF s) (zE s) (zW s) n = zW s := by simp [lokW, b4]
            have hEE : lokE (zF s) (zN s) (zE s) n = ((fPa (zF s) n).getD 0, fNm (zF s) n, e.2.2.1, e.2.2.2) := by
              simp only [lokE, b4, beq_self_eq_true, Bool.or_true, if_true]
              rw [← b4]; simp [eEd, eWd, h]
            obtain ⟨-, -, m3, m4⟩ := (he1 n n60).2 e h
            refine ⟨v2, ?_, (by rw [p2.1 0 (by decide), c2.1 0 (by decide)]), ⟨hf1.ag p2, hr1.ag p2, ?_, ?_, ?_, ?_, hnn1.ag p2⟩, hz1.ag p2⟩
            · have : ((1 : Int32) = 0) = False := by simp
              simp only [n_X3_acts_b179, mg_c, gd_t, p1, bn_s, this, if_false]
            · show RMe (zF s) (fu (zE s) n (some (lokE (zF s) (zN s) (zE s) n))) v2
              rw [hEE]
              refine RMe_fu he1 (fun j hj hne => ⟨fun p hp => ?_, fun q _ => by rw [p2.2 23 (by decide)]⟩) hlen p4 g19 g20 (by rw [p2.2 21 (by decide)]; exact m3) (fun z => by rw [p2.2 22 (by decide), p2.2 23 (by decide)]; exact m4 z)
              simp only [List.mem_cons, List.not_mem_nil, or_false] at hp
              rcases hp with rfl | rfl | rfl | rfl | rfl
              · exact p3 18 (by decide) j hne
              · exact p3 19 (by decide) j hne
              · exact p3 20 (by decide) j hne
              · rw [p2.2 21 (by decide)]
              · rw [p2.2 22 (by decide)]
            · show RMa (if fFo (zF s) n = true then lokA (zF s) n ac1 (fMd (zF s)) else ac1) v2
              rw [hnfo]; exact c3.ag p2
            · show RMs (fu (zE s) n (some (lokE (zF s) (zN s) (zE s) n))) (lokW (zF s) (zE s) (zW s) n) (zS s) v2
              rw [hx]
              have := hsg1.ag p2
              refine ⟨this.1, ?_⟩
              rw [pnd_fu (x := zW s) (fun _ _ _ => rfl) (fun p hp _ => by rw [h]; rfl)]
              exact this.2
            · show RMw (fu (zE s) n (some (lokE (zF s) (zN s) (zE s) n))) (lokW (zF s) (zE s) (zW s) n) v2
              rw [hx]
              intro k hk
              rw [(hw1.ag p2) k hk]
              by_cases ek : k = n
              · subst ek; rw [fu_s, h]; rfl
              · rw [fu_n _ _ ek]
          · rw [if_neg b4]
            have hb4 : (eEd (zE s) n == fEd (zF s) n) = false := beq_false_of_ne b4
            have hx : lokW (zF s) (zE s) (zW s) n = zW s ||| bbit (nI n) := by simp [lokW, b2, hb4]
            have hEE : lokE (zF s) (zN s) (zE s) n = ((fPa (zF s) n).getD 0, fNm (zF s) n, fEd (zF s) n, takW (zN s) (fMk (zF s) n)) := by
              simp [lokE, b2, hb4]
            have hP2 := (hsg1.ag p2).2
            have hP6 : (pnd (zE s) (zW s) (plF (zS s) 0)).length ≤ 600 := by simp only [pnd, List.length_map]; have := hS.len h6 0; omega
            have hPb : ∀ p ∈ pnd (zE s) (zW s) (plF (zS s) 0), p.2.1 < 60 := pnd_bd fun p hp => by have := (hS.bd 0 p hp).1; omega
            obtain ⟨v3, r0, ⟨r1, r2, r3, r4, r5, r6, r7⟩, r8⟩ := q_reads (M := M) (S := S) (hf1.ag p2) (hnn1.ag p2) hF h6 hn hP2 hP6 hPb
            refine ⟨v3, ?_, (by rw [r1.1 0 (by decide), p2.1 0 (by decide), c2.1 0 (by decide)]), ⟨(hf1.ag p2).ag r1, (hr1.ag p2).ag r1, ?_, ?_, ?_, ?_, (hnn1.ag p2).ag r1⟩, (hz1.ag p2).ag r1⟩
            · simp only [n_X3_acts_b178, n_X3_acts_b179, mg_c, gd_t, p1, bn_s, if_true, r0]
            · show RMe (zF s) (fu (zE s) n (some (lokE (zF s) (zN s) (zE s) n))) v3
              rw [hEE]
              refine RMe_fu he1 (fun j hj hne => ⟨fun p hp => ?_, fun q hq => by rw [r3 j q hne hq, p2.2 23 (by decide)]⟩) hlen (by rw [r1.2 18 (by decide)]; exact p4) (by rw [r1.2 19 (by decide)]; exact g19) (by rw [r1.2 20 (by decide)]; exact g20) (by rw [r4, p2.2 4 (by decide)]; exact hf1.ed hn) (fun _ => ⟨r5, r6⟩)
              simp only [List.mem_cons, List.not_mem_nil, or_false] at hp
              rcases hp with rfl | rfl | rfl | rfl | rfl
              · rw [r1.2 18 (by decide)]; exact p3 18 (by decide) j hne
              · rw [r1.2 19 (by decide)]; exact p3 19 (by decide) j hne
              · rw [r1.2 20 (by decide)]; exact p3 20 (by decide) j hne
              · rw [r2 21 (by decide) j hne, p2.2 21 (by decide)]
              · rw [r2 22 (by decide) j hne, p2.2 22 (by decide)]
            · show RMa (if fFo (zF s) n = true then lokA (zF s) n ac1 (fMd (zF s)) else ac1) v3
              rw [hnfo]; exact (c3.ag p2).ag r1
            · show RMs (fu (zE s) n (some (lokE (zF s) (zN s) (zE s) n))) (lokW (zF s) (zE s) (zW s) n) (zS s) v3
              rw [hx]
              refine ⟨by rw [r1.1 41 (by decide), p2.1 41 (by decide)]; exact hsg1.1, ?_⟩
              have : pnd (fu (zE s) n (some (lokE (zF s) (zN s) (zE s) n))) (zW s ||| bbit (nI n)) (plF (zS s) 0) = kilP (pnd (zE s) (zW s) (plF (zS s) 0)) n := by
                simp only [pnd, kilP, List.map_map]
                refine List.map_congr_left fun p hp => ?_
                have hb := (hS.bd 0 p hp).1
                simp only [Function.comp]
                rw [tb_set _ (by omega) (by omega)]
                by_cases e : p.2.1 = n
                · rw [e, fu_s]; simp
                · rw [fu_n _ _ e]; simp [beq_false_of_ne e]
              rw [this]; exact r8
            · show RMw (fu (zE s) n (some (lokE (zF s) (zN s) (zE s) n))) (lokW (zF s) (zE s) (zW s) n) v3
              rw [hx]
              intro k hk
              rw [tb_set _ (by omega) (by omega)]
              by_cases ek : k = n
              · subst ek; rw [fu_s, r7]; simp
              · rw [fu_n _ _ ek, r2 30 (by decide) k ek, p2.2 30 (by decide), hw1 k hk]; simp [beq_false_of_ne ek]
  · have b1' : (abv (zF s) (zR s) n).isNone = true := by cases h : abv (zF s) (zR s) n <;> simp_all
    rw [if_pos b1]
    simp only [b1', if_true]
    obtain ⟨v2, d1, d2, d3, d4, d5⟩ := q_forgets (M := M) (S := S) hf1 hr1 hT he1 hE hsg1 hw1 hS h6 hn
    exact ⟨v2, by rw [d1, bn_s], (by rw [d2.1 0 (by decide), c2.1 0 (by decide)]), ⟨hf1.ag d2, hr1.ag d2, d3, c3.ag d2, d4, d5, hnn1.ag d2⟩, hz1.ag d2⟩
end
