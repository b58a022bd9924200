/-! what holds in a work goes on holding -/
section
variable {M : Nat} {S : St} {u v w : MM} {f f' : Fl} {rs rs' : List RtV} {en : En} {ac : List AcV} {s : Sg} {rk rk' : Nat → Nat}
theorem takW_len (nm : Nm) (ms : List Int32) : (takW nm ms).length ≤ ms.length := tkW_len ms 0 0
theorem IW_rts {l : List RtV} (hI : IW s rk) (hT : RT (zF s) l) (hm : l.map (·.1) = (zR s).map (·.1)) : IW (wR s l) rk := by
  obtain ⟨A, h6, -, hN, hB, hE, hF, hS, hF1, hE0, hW⟩ := hI
  exact ⟨A, h6, hT, RN_map hN hm.symm, hB, hE, hF, hS, hF1, hE0, hW⟩
theorem IW_acs {l : List AcV} (hI : IW s rk) (hB : AB (zF s) l) : IW (wA s l) rk := by
  obtain ⟨A, h6, hT, hN, -, hE, hF, hS, hF1, hE0, hW⟩ := hI
  exact ⟨A, h6, hT, hN, hB, hE, hF, hS, hF1, hE0, hW⟩
theorem IW_num (hI : IW s rk) (n : Nm) : IW (wN s n) rk := hI
theorem IW_hear (hI : IW s rk) {r : RtV} (hr : r ∈ zR s) : IW (hear s r) rk := by
  have hT := hI.2.2.1
  have hB := hI.2.2.2.2.1
  have hrb := hT.2 r hr
  unfold hear
  split
  · refine IW_rts hI (RT_upd hT _ fun x hx => ?_) (updR_map _ _ fun _ => rfl)
    exact RB_beg ⟨hx.1, hx.2.1, hx.2.2.1, fun z => by simp at z, hx.2.2.2.2⟩
  · split
    · exact hI
    · next p q hq =>
      refine IW_acs (s := wR s _) (IW_rts hI ?_ (updR_map _ _ fun _ => rfl)) (adA_AB hB (hrb.2.2.1 p (by rw [hq]; exact List.mem_cons_self)).2)
      refine ⟨by rw [updR_len]; exact hT.1, fun x hx => ?_⟩
      obtain ⟨y, hy, rfl⟩ := List.mem_map.mp hx
      have hyb := hT.2 y hy
      split
      · next e =>
        have : y = r := by
          obtain ⟨i, hi⟩ := List.mem_iff_getElem?.mp hy
          obtain ⟨j, hj⟩ := List.mem_iff_getElem?.mp hr
          have := hI.2.2.2.1.inj hi hj e
          subst this
          rw [hi] at hj; exact Option.some.inj hj
        subst this
        refine ⟨hyb.1, ?_, fun z hz => hyb.2.2.1 z (by rw [hq]; exact List.mem_cons_of_mem _ hz), fun z => ?_, hyb.2.2.2.2⟩
        · have := hyb.2.1
          rw [hq] at this
          simp at this
          show q.length ≤ 8
          omega
        · have := hyb.2.2.2.1 z
          rw [hq] at this; cases this
      · exact hyb
theorem IW_drop (hI : IW s rk) (n : Nat) : IW (drop s n) rk := by
  obtain ⟨A, h6, hT, hN, hB, hE, hF, hS, hF1, hE0, hW⟩ := hI
  have hd : ∀ k e, drE (zE s) (drS (zR s) (zE s) n) k = some e → zE s k = some e := fun k e h => by
    simp only [drE] at h
    split at h
    · cases h
    · exact h
  refine ⟨A, h6, hT, hN, hB, fun k e h => hE k e (hd k e h), hF, ⟨?_, ?_⟩, hF1, fun k e h => hE0 k e (hd k e h), hW⟩
  · show (kilS (zS s) _).length ≤ 4
    simpa [kilS] using hS.1
  · intro g hg
    obtain ⟨g0, h0, rfl⟩ := List.mem_map.mp hg
    obtain ⟨s1, s2⟩ := hS.2 g0 h0
    refine ⟨by simpa [List.map_map, Function.comp_def] using s1, fun p hp => ?_⟩
    obtain ⟨p0, hp0, rfl⟩ := List.mem_map.mp hp
    obtain ⟨b1, b2, b3⟩ := s2 p0 hp0
    refine ⟨b1, b2, fun z => ?_⟩
    simp only [Bool.or_eq_false_iff] at z
    show (drE (zE s) (drS (zR s) (zE s) n) p0.1).isSome = true
    simp only [drE, z.2, Bool.false_eq_true, if_false]
    exact b3 z.1
theorem IW_look (hI : IW s rk) {n : Nat} (hn : n < fMd (zF s)) (ht : (abv (zF s) (zR s) n).isSome = true) : IW (look s n) rk := by
  obtain ⟨A, h6, hT, hN, hB, hE, hF, hS, hF1, hE0, hW⟩ := hI
  obtain ⟨p, hp, hpm⟩ := abv_par A hn ht
  have hed : eEd (zE s) n < 1000 := by
    unfold eEd
    cases h : zE s n with
    | none => decide
    | some e => exact (hE n e h).2.2.1
  have hwd : (eWd (zE s) n).length ≤ 20 := by
    unfold eWd
    cases h : zE s n with
    | none => decide
    | some e => exact (hE n e h).2.2.2
  have hsome : ∀ k, (zE s k).isSome = true → (fu (zE s) n (some (lokE (zF s) (zN s) (zE s) n)) k).isSome = true := fun k hk => by
    by_cases e : k = n
    · subst e; rw [fu_s]; rfl
    · rw [fu_n _ _ e]; exact hk
  refine ⟨A, h6, hT, hN, ?_, fun k e h => ?_, hF, ⟨hS.1, fun g hg => ⟨(hS.2 g hg).1, fun p hp => ⟨((hS.2 g hg).2 p hp).1, ((hS.2 g hg).2 p hp).2.1, fun z => hsome _ (((hS.2 g hg).2 p hp).2.2 z)⟩⟩⟩, hF1, fun k e h hfo => ?_, fun k hk h => ?_⟩
  · show AB (zF s) (if fFo (zF s) n = true then lokA (zF s) n (zA s) (fMd (zF s)) else zA s)
    split
    · exact lokA_AB hB _ (Nat.le_refl _)
    · exact hB
  · by_cases ek : k = n
    · subst ek
      have h : some (lokE (zF s) (zN s) (zE s) k) = some e := by rw [← h]; exact (fu_s _ _ _).symm
      cases h
      refine ⟨hn, ?_, ?_, ?_⟩
      · simp only [lokE, hp, Option.getD_some]
        split <;> exact hpm
      · simp only [lokE]
        split
        · exact hed
        · exact (hF k hn).1
      · simp only [lokE]
        split
        · exact hwd
        · exact Nat.le_trans (takW_len _ _) (hF k hn).2
    · have h : zE s k = some e := by rw [← h]; exact (fu_n _ _ ek).symm
      exact hE k e h
  · by_cases ek : k = n
    · subst ek
      have h : some (lokE (zF s) (zN s) (zE s) k) = some e := by rw [← h]; exact (fu_s _ _ _).symm
      cases h
      have hfo : fFo (zF s) k = true := hfo
      simp only [lokE, hfo, Bool.true_or, if_true, eEd]
      cases h : zE s k with
      | none => rfl
      | some e => exact hE0 k e h hfo
    · have h : zE s k = some e := by rw [← h]; exact (fu_n _ _ ek).symm
      exact hE0 k e h hfo
  · have h : tb (lokW (zF s) (zE s) (zW s) n) k = true := h
    unfold lokW at h
    split at h
    · exact hW k hk h
    · next hc =>
      rw [tb_set _ (by omega) (by omega)] at h
      by_cases ek : k = n
      · subst ek
        refine ⟨hn, ?_⟩
        simp only [Bool.or_eq_true, not_or] at hc
        show fFo (zF s) k = false
        simpa using hc.1
      · simp only [beq_false_of_ne ek, Bool.or_false] at h
        exact hW k hk h
theorem IW_perf (hI : IW s rk) {i : Nat} {a : AcV} (hi : (zA s)[i]? = some a) : IW (perf (wA s ((zA s).eraseIdx i)) a) rk := by
  have hB := hI.2.2.2.2.1
  have hB1 := eraseIdx_AB hB i
  have hn := hB.2 a (List.mem_of_getElem? hi)
  have hI1 : IW (wA s ((zA s).eraseIdx i)) rk := IW_acs hI hB1
  unfold perf
  split
  · exact IW_drop hI1 a.1
  · next ht =>
    split
    · exact IW_acs hI1 (adA_AB hB1 hn)
    · split
      · refine IW_acs hI1 ⟨?_, fun b hb => ?_⟩
        · rw [List.map_append, List.nodup_append]
          refine ⟨hB1.1, by simp, fun x hx y hy => ?_⟩
          simp at hy
          subst hy
          obtain ⟨b, hb, rfl⟩ := List.mem_map.mp hx
          obtain ⟨j, hj⟩ := List.mem_iff_getElem?.mp hb
          have hj : ((zA s).eraseIdx i)[j]? = some b := hj
          intro e
          rw [List.getElem?_eraseIdx] at hj
          split at hj
          · next hji => have := hB.inj hj hi e; omega
          · next hji => have := hB.inj hj hi e; omega
        · rcases List.mem_append.mp hb with z | z
          · exact hB1.2 b z
          · simp at z; subst z; exact hn
      · refine IW_look hI1 hn ?_
        cases h : abv (zF s) (zR s) a.1 with
        | none => exact absurd (show (abv (zF (wA s ((zA s).eraseIdx i))) (zR (wA s ((zA s).eraseIdx i))) a.1).isNone = true by show (abv (zF s) (zR s) a.1).isNone = true; rw [h]; rfl) ht
        | some x => rfl
theorem IW_crwl (hI : IW s rk) {r : RtV} (hr : r ∈ zR s) {d : Nat} {l : List Nat} (hc : r.2.2.2.1 = some (d :: l)) : IW (crwl s r) rk := by
  obtain ⟨A, h6, hT, hN, hB, hE, hF, hS, hF1, hE0, hW⟩ := hI
  have hI : IW s rk := ⟨A, h6, hT, hN, hB, hE, hF, hS, hF1, hE0, hW⟩
  have hrb := hT.2 r hr
  obtain ⟨-, hnd, hbd⟩ := hrb.2.2.2.2 _ hc
  have hln : l.Nodup := (List.nodup_cons.mp hnd).2
  have hlb : ∀ y ∈ l, y < fMd (zF s) := fun y hy => hbd y (List.mem_cons_of_mem _ hy)
  have ecrw : crwl s r = cwF s r.1 (cwZ s r l d) := by unfold crwl; rw [hc]
  rw [ecrw]
  have hz : AB (zF s) (cwZ s r l d).1 ∧ (cwZ s r l d).2.2.Nodup ∧ ∀ y ∈ (cwZ s r l d).2.2, y < fMd (zF s) := by
    unfold cwZ
    split
    · exact cw1_ok hB hln hlb _ (Nat.le_refl _)
    · exact ⟨hB, hln, hlb⟩
  unfold cwF
  split
  · refine IW_acs (s := wR s _) (IW_rts hI (RT_upd hT _ fun x hx => ?_) (updR_map _ _ fun _ => rfl)) (cw2_AB hz.1 hE 60)
    exact ⟨hx.1, hx.2.1, hx.2.2.1, hx.2.2.2.1, fun l hl => by simp at hl⟩
  · next hne =>
    refine IW_acs (s := wR s _) (IW_rts hI (RT_upd hT _ fun x hx => ?_) (updR_map _ _ fun _ => rfl)) hz.1
    refine ⟨hx.1, hx.2.1, hx.2.2.1, hx.2.2.2.1, fun l hl => ?_⟩
    simp only [Option.some.injEq] at hl
    subst hl
    exact ⟨fun z => hne (by rw [z]; rfl), hz.2.1, hz.2.2⟩
theorem crwlg_some (hT : RT f rs) {r : RtV} (h : crwlg rs = some r) : r ∈ rs ∧ ∃ d l, r.2.2.2.1 = some (d :: l) := by
  have hm := List.mem_of_find?_eq_some h
  have hp := List.find?_some h
  refine ⟨hm, ?_⟩
  cases hc : r.2.2.2.1 with
  | none => simp [hc] at hp
  | some l =>
    cases l with
    | nil => exact absurd rfl ((hT.2 r hm).2.2.2.2 _ hc).1
    | cons d l => exact ⟨d, l, rfl⟩
theorem IW_doN (hI : IW s rk) (left : Int32) : IW (doN s left).2 rk := by
  unfold doN
  split
  · next r hr =>
    split
    · exact hI
    · exact IW_hear hI (List.mem_of_find?_eq_some hr)
  · split
    · next a ha =>
      split
      · exact hI
      · exact IW_perf hI ha
    · split
      · next r hr =>
        obtain ⟨hm, d, l, hc⟩ := crwlg_some hI.2.2.1 hr
        split
        · exact hI
        · exact IW_crwl hI hm hc
      · exact hI
theorem nxtA_get (ac : List AcV) : ac[nxtA ac]? = ac.find? (fun a => !a.2.2) := by
  unfold nxtA
  rw [List.find?_eq_getElem?_findIdx]
/-- does what comes next -/
theorem q_does (hI : IW s rk) (hs : RA s u) (left : Int32) : ∃ v, n_X3_does (mput M S u) (some M) left = some ((doN s left).1, mput M S v) ∧ v.1 0 = u.1 0 ∧ RA (doN s left).2 v := by
  obtain ⟨A, h6, hT, hN, hB, hE, hF, hS, hF1, hE0, hW⟩ := hI
  have hI : IW s rk := ⟨A, h6, hT, hN, hB, hE, hF, hS, hF1, hE0, hW⟩
  have hr := hs.1.2.1
  have ha := hs.1.2.2.2.1
  have hl := hB.len h6
  have h3 := hT.1
  have hz3 : (zR s).length < 2 ^ 31 := by omega
  have hza : (zA s).length < 2 ^ 31 := by omega
  simp only [n_X3_does, mg_c, gd_t, q_firstNoticed hr hT, q_firstAct ha hl, q_firstCrawl hr hT, bn_s, prI_none (fst1_bd hz3), prI_none (fst1_bd hza)]
  have fin0 : ∀ {x1 x2 x3 x4 : Int32}, n_X3_does_b35 (mput M S u) (some M) x1 x2 x3 x4 1 = n_X3_does_b34 (mput M S u) (some M) x1 x2 x3 x4 := fun {_ _ _ _} => rfl
  cases h1 : fst1 (fun r : RtV => r.2.2.1 || !r.2.1.isEmpty) (zR s) 0 with
  | some j =>
    obtain ⟨-, hj, ⟨r, hrj, hfd⟩, -⟩ := fst1_find.1 j h1
    have hrj : (zR s)[j]? = some r := hrj
    have htl : tellg (zR s) = some r := hfd
    have hp := List.find?_some hfd
    have hpr : r.2.2.1 = true ∨ r.2.1 ≠ [] := by
      simp only [Bool.or_eq_true, Bool.not_eq_true', List.isEmpty_eq_false_iff] at hp
      exact hp
    simp only [doN, htl]
    simp only [reduceCtorEq, if_false, n_X3_does_b34, n_X3_does_b35, prI_s, nI_e1 (show j < 2 ^ 31 by omega), n_X3_does_b61, mg_c, gd_t]
    by_cases hc : left < 1
    · rw [if_pos hc, if_pos hc]; exact ⟨u, rfl, rfl, hs⟩
    · rw [if_neg hc, if_neg hc]
      obtain ⟨v, d1, d2⟩ := q_notes (M := M) (S := S) hI hs hrj hpr
      exact ⟨v, by rw [d1, bn_s]; rfl, d2⟩
  | none =>
    have htl : tellg (zR s) = none := (fst1_find.2 h1).1
    simp only [doN, htl, if_true]
    cases h2 : fst1 (fun a : AcV => !a.2.2) (zA s) 0 with
    | some j =>
      obtain ⟨-, hj, ⟨a, haj, hfd⟩, hix⟩ := fst1_find.1 j h2
      have haj : (zA s)[j]? = some a := haj
      have hnx : nxtA (zA s) = j := hix
      rw [hnx, haj]
      have hcost := q_cost (nm := zN s) (M := M) (S := S) hs A h6 hT hN hE hF (fun k hk => (hF1 k hk).1) hB haj
      simp only [reduceCtorEq, if_false, prI_s, hcost, bn_s, n_X3_does_b35, nI_e1 (show j < 2 ^ 31 by omega), prI_n, if_true, n_X3_does_b61, mg_c, gd_t]
      by_cases hc : left < nI (cosA s a)
      · rw [if_pos hc, if_pos hc]; exact ⟨u, rfl, rfl, hs⟩
      · rw [if_neg hc, if_neg hc]
        obtain ⟨v, d1, d2⟩ := q_act (M := M) (S := S) hI hs haj
        exact ⟨v, by rw [d1, bn_s]; rfl, d2⟩
    | none =>
      have hnx : (zA s)[nxtA (zA s)]? = none := by rw [nxtA_get]; exact (fst1_find.2 h2).1
      rw [hnx]
      simp only [if_true, n_X3_does_b34, n_X3_does_b35, prI_n]
      cases h3 : fst1 (fun r : RtV => r.2.2.2.1.isSome) (zR s) 0 with
      | some j =>
        obtain ⟨-, hj, ⟨r, hrj, hfd⟩, -⟩ := fst1_find.1 j h3
        have hrj : (zR s)[j]? = some r := hrj
        have hcl : crwlg (zR s) = some r := hfd
        obtain ⟨hm, d, l, hcr⟩ := crwlg_some hT hcl
        simp only [hcl, prI_s, nI_e1 (show j < 2 ^ 31 by omega), if_false, n_X3_does_b61, if_true, mg_c, gd_t]
        by_cases hc : left < 1
        · rw [if_pos hc, if_pos hc]; exact ⟨u, rfl, rfl, hs⟩
        · rw [if_neg hc, if_neg hc]
          obtain ⟨v, d1, d2⟩ := q_goesOn (M := M) (S := S) hI hs hrj hcr
          exact ⟨v, by rw [d1, bn_s]; rfl, d2⟩
      | none =>
        have hcl : crwlg (zR s) = none := (fst1_find.2 h3).1
        simp only [hcl, prI_n, if_true]
        refine ⟨u, ?_, rfl, hs⟩
        split <;> rfl
end
