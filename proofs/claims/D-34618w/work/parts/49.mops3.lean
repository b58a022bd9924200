/-! the reference's calls: move, remove -/
section
variable {M : Nat} {S : St} {u v w : MM} {f f' : Fl} {rs rs' : List RtV} {s : Sg} {rk rk' : Nat → Nat}
theorem lst_any {α : Type} (p : α → Bool) (l : List α) : (lst p l l.length).isSome = l.any p := by
  cases h : lst p l l.length with
  | none =>
    refine (List.any_eq_false.mpr fun x hx => ?_).symm
    obtain ⟨i, hi⟩ := List.mem_iff_getElem?.mp hx
    have := lst_none h i x (List.getElem?_eq_some_iff.mp hi).1 hi
    simp [this]
  | some i =>
    obtain ⟨-, x, hx, hp⟩ := lst_some h
    exact (List.any_eq_true.mpr ⟨x, List.mem_of_getElem? hx, hp⟩).symm
theorem lst_isR (n : Nat) : (lst (fun r : RtV => r.1 == n) rs rs.length = none) = (isR rs n = false) := by
  have := lst_any (fun r : RtV => r.1 == n) rs
  unfold isR
  rw [← this]
  cases lst (fun r : RtV => r.1 == n) rs rs.length <;> simp
theorem lst_map {α β : Type} (g : α → β) (p : β → Bool) (l : List α) : ∀ k, lst (fun x => p (g x)) l k = lst p (l.map g) k := by
  intro k
  induction k with
  | zero => rfl
  | succ k ih =>
    simp only [lst, List.getElem?_map]
    rw [ih]
    cases l[k]? <;> rfl
theorem ovr_map (f : Fl) (n : Nat) (h : rs.map (·.1) = rs'.map (·.1)) : ovr f rs n = ovr f rs' n := by
  have hl : rs.length = rs'.length := by have := congrArg List.length h; simpa using this
  have e : lst (fun r : RtV => blw f n r.1) rs rs.length = lst (fun r : RtV => blw f n r.1) rs' rs'.length := by
    rw [lst_map (·.1) (fun a => blw f n a) rs, lst_map (·.1) (fun a => blw f n a) rs', h, hl]
  simp only [ovr, e]
theorem abv_map (f : Fl) (n : Nat) (h : rs.map (·.1) = rs'.map (·.1)) : abv f rs n = abv f rs' n := by
  have e : ∀ l : List RtV, (l.find? fun r => blw f n r.1).map (·.1) = (l.map (·.1)).find? fun a => blw f n a := by
    intro l
    rw [List.find?_map]; rfl
  simp only [abv, e, h]
theorem isR_map (n : Nat) (h : rs.map (·.1) = rs'.map (·.1)) : isR rs n = isR rs' n := by
  have e : ∀ l : List RtV, isR l n = (l.map (·.1)).any (fun a => a == n) := fun l => by rw [List.any_map]; rfl
  rw [e, e, h]
theorem RN_map (h : RN f rs) (e : rs.map (·.1) = rs'.map (·.1)) : RN f rs' := by
  refine ⟨e ▸ h.1, fun r hr r' hr' => ?_⟩
  have h1 : r.1 ∈ rs.map (·.1) := by rw [e]; exact List.mem_map.mpr ⟨r, hr, rfl⟩
  have h2 : r'.1 ∈ rs.map (·.1) := by rw [e]; exact List.mem_map.mpr ⟨r', hr', rfl⟩
  obtain ⟨a, ha, ea⟩ := List.mem_map.mp h1
  obtain ⟨b, hb, eb⟩ := List.mem_map.mp h2
  rw [← ea, ← eb]
  exact h.2 a ha b hb
theorem updR_map (a : Nat) (g : RtV → RtV) (hg : ∀ r, (g r).1 = r.1) : (updR rs a g).map (·.1) = rs.map (·.1) := by
  unfold updR
  rw [List.map_map]
  refine List.map_congr_left fun r _ => ?_
  simp only [Function.comp]
  split
  · exact hg r
  · rfl
theorem telR_1 (k n : Nat) (r : RtV) : (telR k n r).1 = r.1 := by unfold telR; split <;> rfl
theorem telS_map (o : Option Nat) (k n : Nat) : (telS rs o k n).map (·.1) = rs.map (·.1) := by
  cases o with
  | none => rfl
  | some a => exact updR_map a _ (telR_1 k n)
theorem updR_len (a : Nat) (g : RtV → RtV) : (updR rs a g).length = rs.length := by simp [updR]
theorem telS_len (o : Option Nat) (k n : Nat) : (telS rs o k n).length = rs.length := by
  cases o with
  | none => rfl
  | some a => exact updR_len a _
theorem RB_tel {r : RtV} (h : RB f r) {k n : Nat} (hk : k < 3) (hn : n < fMd f) : RB f (telR k n r) := by
  obtain ⟨h1, h2, h3, h4, h5⟩ := h
  unfold telR
  split
  · exact ⟨h1, by simp, by simp, fun _ => rfl, h5⟩
  · next hc =>
    simp only [Bool.or_eq_true, beq_iff_eq, not_or] at hc
    refine ⟨h1, by simp; omega, fun p hp => ?_, fun z => absurd z (by simpa using hc.1), h5⟩
    rcases List.mem_append.mp hp with z | z
    · exact h3 p z
    · simp at z; subst z; exact ⟨hk, hn⟩
theorem RT_upd (h : RT f rs) (a : Nat) {g : RtV → RtV} (hg : ∀ r, RB f r → RB f (g r)) : RT f (updR rs a g) := by
  refine ⟨by rw [updR_len]; exact h.1, fun r hr => ?_⟩
  obtain ⟨r0, h0, rfl⟩ := List.mem_map.mp hr
  have := h.2 r0 h0
  split
  · exact hg r0 this
  · exact this
theorem RT_tel (h : RT f rs) (o : Option Nat) {k n : Nat} (hk : k < 3) (hn : n < fMd f) : RT f (telS rs o k n) := by
  cases o with
  | none => exact h
  | some a => exact RT_upd h a fun r hr => RB_tel hr hk hn
theorem ovr_eq (A : AC f rk) (A' : AC f' rk') (hN : RN f rs) (hN' : RN f' rs) {n : Nat} (hn : n < fMd f) (hn' : n < fMd f') : (ovr f rs n = ovr f' rs n) = (abv f rs n = abv f' rs n) := by
  cases h1 : ovr f rs n with
  | none =>
    rw [ovr_none h1]
    cases h2 : ovr f' rs n with
    | none => rw [ovr_none h2]
    | some j =>
      obtain ⟨r, -, e⟩ := ovr_some A' hN' hn' h2
      rw [e]; simp
  | some i =>
    obtain ⟨r, e1, e2⟩ := ovr_some A hN hn h1
    rw [e2]
    cases h2 : ovr f' rs n with
    | none => rw [ovr_none h2]; simp
    | some j =>
      obtain ⟨r', e3, e4⟩ := ovr_some A' hN' hn' h2
      rw [e4]
      refine propext ⟨fun z => ?_, fun z => ?_⟩
      · cases z; rw [e1] at e3; cases e3; rfl
      · simp only [Option.some.injEq] at z
        rw [hN.inj e1 e3 z]
theorem RT_fl (h : RT f rs) (e : fMd f' = fMd f) : RT f' rs := by
  refine ⟨h.1, fun r hr => ?_⟩
  have := h.2 r hr
  unfold RB at this ⊢
  rw [e]; exact this
theorem ovr_bd (h : RS f rs) (n : Nat) : ∀ p, ovr f' rs n = some p → p < 2 ^ 31 := fun p hp => by
  have := ovr_lt hp; have := h.1; omega
theorem q_move (h : RA s u) (A : AC (zF s) rk) (h6 : fMd (zF s) ≤ 60) (hT : RT (zF s) (zR s)) (hN : RN (zF s) (zR s)) (x y nm : Int32) (hx : ∀ n p, ndA (zF s) x = some n → n ≠ 0 → foA (zF s) y = some p → hasA (zF s) n p = false → (holR (zF s) (zR s) n = true → isR (zR s) p = false ∧ abv (zF s) (zR s) p = none) → (∃ rk', AC (movF (zF s) n p nm) rk') ∧ RN (movF (zF s) n p nm) (zR s)) : ∃ v b, n_X3_move (mput M S u) (some M) x y nm = some (b, mput M S v) ∧ RO (opMove s x y nm) b v := by
  have hh := h
  obtain ⟨⟨hf, hr, he, ha, hs, hw, hnn⟩, hz⟩ := h
  have e20 : n_X3_move_b20 (mput M S u) (some M) = some (0, mput M S (ui u 0 1)) := by
    simp only [n_X3_move_b20, mg_c, gd_t, q_fails, bn_s, rt_i, id]
  simp only [n_X3_move, mg_c, gd_t, q_isNode hf h6, bn_s, b2i_0, e20, q_isFolderAt hf h6]
  cases hp : ndA (zF s) x with
  | none => exact ⟨ui u 0 1, 0, by simp, by simp only [opMove, hp]; exact RO_fail hh 1 0 (by decide)⟩
  | some n =>
    obtain ⟨n1, rfl, n2⟩ := ndA_some hp h6
    have n60 : n < 60 := by omega
    simp only [Option.isSome_some, Bool.true_eq_false, if_false, nI_eq0 (show n < 2 ^ 31 by omega)]
    by_cases hn0 : n = 0
    · refine ⟨ui u 0 1, 0, by simp [hn0], ?_⟩
      subst hn0
      simp only [opMove, hp, if_true]; exact RO_fail hh 1 0 (by decide)
    · rw [if_neg hn0]
      cases hq : foA (zF s) y with
      | none => exact ⟨ui u 0 1, 0, by simp, by simp only [opMove, hp, hn0, if_false, hq]; exact RO_fail hh 1 0 (by decide)⟩
      | some p =>
        obtain ⟨p1, rfl, p2, p3⟩ := foA_some hq h6
        have p60 : p < 60 := by omega
        simp only [Option.isSome_some, Bool.true_eq_false, if_false, nI_eqE (show p < 2 ^ 31 by omega) (show n < 2 ^ 31 by omega), q_isBelow hf A h6 p1 n60, bn_s, b2i_0]
        simp only [opMove, hp, hn0, if_false, hq]
        -- the two questions: inside, nested
        have e45 : (if p = n then n_X3_move_b40 (mput M S u) (some M) (nI n) (nI p) nm else if blw (zF s) p n = false then n_X3_move_b45 (mput M S u) (some M) (nI n) (nI p) nm 0 else n_X3_move_b40 (mput M S u) (some M) (nI n) (nI p) nm) = n_X3_move_b45 (mput M S u) (some M) (nI n) (nI p) nm (b2i (hasA (zF s) n p)) := by
          have e40 : n_X3_move_b40 (mput M S u) (some M) (nI n) (nI p) nm = n_X3_move_b45 (mput M S u) (some M) (nI n) (nI p) nm (b2i true) := rfl
          rw [e40]
          by_cases e : p = n
          · simp [e, hasA]
          · rcases Bool.eq_false_or_eq_true (blw (zF s) p n) with hb | hb
            · simp [e, hb, hasA]
            · simp [e, hb, hasA, beq_false_of_ne e, b2i_f]
        rw [e45]
        have e78 : n_X3_move_b45 (mput M S u) (some M) (nI n) (nI p) nm (b2i (hasA (zF s) n p)) = n_X3_move_b78 (mput M S u) (some M) (nI n) (nI p) nm (b2i (hasA (zF s) n p)) (b2i (holR (zF s) (zR s) n && (isR (zR s) p || (abv (zF s) (zR s) p).isSome))) := by
          simp only [n_X3_move_b45, mg_c, gd_t, q_holdsRoot hf A hr hT.toS h6 n1, bn_s, b2i_0, q_rootAt hr hT.toS h6 p60, q_over hf A hr hT.toS h6 p1]
          have e1 : (ovr (zF s) (zR s) p = none) = ((abv (zF s) (zR s) p).isSome = false) := by
            rw [← ovr_iff A hN p1]
            cases ovr (zF s) (zR s) p <;> simp
          have e0 : (prI (lst (fun r => r.1 == p) (zR s) (zR s).length) = -1) = (isR (zR s) p = false) := (prI_none (fun a ha => by have := lst_lt ha; have := hT.1; omega)).trans (lst_isR p)
          simp only [e0, (prI_none (ovr_bd hT.toS p)).trans e1]
          have c1 : n_X3_move_b77 (mput M S u) (some M) (nI n) (nI p) nm (b2i (hasA (zF s) n p)) = n_X3_move_b78 (mput M S u) (some M) (nI n) (nI p) nm (b2i (hasA (zF s) n p)) (b2i false) := rfl
          have c2 : n_X3_move_b73 (mput M S u) (some M) (nI n) (nI p) nm (b2i (hasA (zF s) n p)) = n_X3_move_b78 (mput M S u) (some M) (nI n) (nI p) nm (b2i (hasA (zF s) n p)) (b2i true) := rfl
          rw [c1, c2]
          rcases Bool.eq_false_or_eq_true (holR (zF s) (zR s) n) with b1 | b1
          · rcases Bool.eq_false_or_eq_true (isR (zR s) p) with b2 | b2
            · simp [b1, b2]
            · rcases Bool.eq_false_or_eq_true (abv (zF s) (zR s) p).isSome with b3 | b3 <;> simp [b1, b2, b3]
          · simp [b1]
        rw [e78]
        have hta := q_isTaken (M := M) (S := S) hf A h6 p1 nm (some n) (fun b hb => by cases hb; exact n60)
        rw [prI_s] at hta
        simp only [n_X3_move_b78, q_in, bn_s, b2i_0, mg_c, gd_t, hta]
        cases hi : inI nm 97 122 with
        | false =>
          refine ⟨ui u 0 2, 0, ?_, ?_⟩
          · simp only [if_true, n_X3_move_b121, mw_0, ob_s, mI_0, ui_1, i_nle0_2, if_false, rt_i, id]
          · simp only [if_true]; exact RO_fail hh 2 0 (by decide)
        | true =>
          simp only [Bool.true_eq_false, if_false]
          have e3 : n_X3_move_b116 (mput M S u) (some M) (nI n) (nI p) nm (some M) = some (0, mput M S (ui u 0 3)) := by
            simp only [n_X3_move_b116, n_X3_move_b121, mw_0, ob_s, mI_0, ui_1, if_true, i_nle0_3, if_false, rt_i, id]
          by_cases hc : hasA (zF s) n p = true ∨ tkn (zF s) p nm (some n) = true ∨ (holR (zF s) (zR s) n = true ∧ (isR (zR s) p = true ∨ (abv (zF s) (zR s) p).isSome = true))
          · rw [if_pos hc]
            refine ⟨ui u 0 3, 0, ?_, RO_fail hh 3 0 (by decide)⟩
            rw [e3]
            rcases hc with hc | hc | ⟨hc1, hc2⟩
            · simp [hc]
            · simp [hc]
            · have : (holR (zF s) (zR s) n && (isR (zR s) p || (abv (zF s) (zR s) p).isSome)) = true := by
                rw [hc1]; simpa using hc2
              rw [this]; simp
          · rw [if_neg hc]
            have hc1 : hasA (zF s) n p = false := by simpa using fun z => hc (Or.inl z)
            have hc2 : tkn (zF s) p nm (some n) = false := by simpa using fun z => hc (Or.inr (Or.inl z))
            have hc3 : (holR (zF s) (zR s) n && (isR (zR s) p || (abv (zF s) (zR s) p).isSome)) = false := by
              refine Bool.eq_false_iff.mpr fun z => hc (Or.inr (Or.inr ?_))
              simpa using z
            have hc4 : holR (zF s) (zR s) n = true → isR (zR s) p = false ∧ abv (zF s) (zR s) p = none := fun z => by
              rw [z] at hc3
              simpa using hc3
            obtain ⟨⟨rk', A'⟩, hN'⟩ := hx n p hp hn0 hq hc1 hc4
            simp only [hc1, hc2, hc3, if_true]
            obtain ⟨f', ef⟩ : ∃ f', f' = movF (zF s) n p nm := ⟨_, rfl⟩
            rw [← ef] at A' hN' ⊢
            have hm : fMd f' = fMd (zF s) := by rw [ef]; rfl
            obtain ⟨v0, z0⟩ : ∃ x, x = ui u 0 0 := ⟨_, rfl⟩
            obtain ⟨v1, z1⟩ : ∃ x, x = ua v0 2 n (nI p) := ⟨_, rfl⟩
            obtain ⟨v2, z2⟩ : ∃ x, x = ua v1 3 n nm := ⟨_, rfl⟩
            have t0 := mw_0 (M := M) (S := S) (u := u) (x := 0)
            have t1 := ms_2 (M := M) (S := S) (u := v0) (x := nI p) n60
            have t2 := ms_3 (M := M) (S := S) (u := v1) (x := nm) n60 (nm_fit hi)
            rw [← z0] at t0
            rw [← z1] at t1
            rw [← z2] at t2
            have hag0 : Ag [0] [] u v0 := by rw [z0]; exact Ag_ui u _ (by decide)
            have hag : Ag [0] [2, 3] u v2 := by
              rw [z2, z1]
              exact Ag_tr (Ag_tr (Ag_up hag0 (by decide) (by decide)) (Ag_ua _ _ _ (by decide))) (Ag_ua _ _ _ (by decide))
            have hov0 := q_over (M := M) (S := S) (hf.ag hag0) A (hr.ag hag0) hT.toS h6 n1
            have hf2 : RMf f' v2 := by
              rw [ef]
              refine ⟨(hag.1 2 (by decide)).trans hf.1, fun k hk => ?_⟩
              have hk : k < fMd (zF s) := hk
              obtain ⟨k0, k1, k2, k3, k4, k5, k6, k7, k8⟩ := hf.2 k hk
              unfold movF
              simp only [fFo_fwNm, fPa_fwNm, fNm_fwNm, fEd_fwNm, fMk_fwNm, fLk_fwNm, fPp_fwNm, fGo_fwNm, fFo_fwPa, fPa_fwPa, fEd_fwPa, fMk_fwPa, fLk_fwPa, fPp_fwPa, fGo_fwPa]
              rw [hag.2 0 (by decide), hag.2 1 (by decide), hag.2 4 (by decide), hag.2 5 (by decide), hag.2 6 (by decide), hag.2 7 (by decide), hag.2 8 (by decide)]
              refine ⟨k0, k1, ?_, ?_, k4, k5, k6, k7, k8⟩
              · rw [z2, z1, z0]
                simp only [ua_2, ui_2]
                by_cases e : k = n
                · simp [e, fu_s, prI]
                · simp [e, fu_n _ _ e]; exact k2
              · rw [z2, z1, z0]
                simp only [ua_2, ui_2]
                by_cases e : k = n
                · simp [e, fu_s]
                · simp [e, fu_n _ _ e]; exact k3
            have hT' : RT f' (zR s) := RT_fl hT hm
            have hn' : n < fMd f' := by omega
            have hov2 := q_over (M := M) (S := S) hf2 A' (hr.ag hag) hT'.toS (by omega) hn'
            have hpar : fPa (zF s) n ≠ none ∨ True := Or.inr trivial
            have fin : ∀ (rs1 : List RtV) (v3 : MM), rs1.map (·.1) = (zR s).map (·.1) → RT f' rs1 → RMr rs1 v3 → Ag [] [10, 11, 12, 13] v2 v3 → ∃ v4, n_X3_move_b184 (mput M S v3) (some M) (nI n) (prI (fPa (zF s) n)) (prI (ovr f' (zR s) n)) = some (prI (fPa (zF s) n), mput M S v4) ∧ RA (wR (wF s f') (telS rs1 (abv f' (zR s) n) 0 n)) v4 ∧ v4.1 0 = 0 := by
              intro rs1 v3 hm1 hT1 hR1 hag3
              obtain ⟨v4, g1, g2, g3⟩ := q_tell (M := M) (S := S) A' hR1 hT1 (RN_map hN' hm1.symm) (by omega) hn' (kd := 0) (n := n)
              rw [ovr_map f' n hm1, nI_0] at g1
              rw [abv_map f' n hm1] at g3
              refine ⟨v4, ?_, ⟨⟨(hf2.ag hag3).ag g2, g3, ?_, ((ha.ag hag).ag hag3).ag g2, ((hs.ag hag).ag hag3).ag g2, ((hw.ag hag).ag hag3).ag g2, ((hnn.ag hag).ag hag3).ag g2⟩, ?_⟩, ?_⟩
              · simp only [n_X3_move_b184, mg_c, gd_t, g1, bn_s, rt_i, id]
              · have := ((he.ag hag).ag hag3).ag g2
                rw [ef]; exact this
              · have := ((hz.ag hag).ag hag3).ag g2
                rw [ef]; exact this
              · rw [g2.1 0 (by decide), hag3.1 0 (by decide), z2, z1]
                show v0.1 0 = 0
                rw [z0, ui_1, if_pos rfl]
            have hpre : n_X3_move_b121 (mput M S u) (some M) (nI n) (nI p) nm 0 (some M) = (if prI (ovr (zF s) (zR s) n) = prI (ovr f' (zR s) n) then n_X3_move_b184 (mput M S v2) (some M) (nI n) (prI (fPa (zF s) n)) (prI (ovr f' (zR s) n)) else bn (n_X3_comes (mput M S v2) (some M) (prI (ovr (zF s) (zR s) n)) 2 (nI n)) fun _ S13 => n_X3_move_b184 S13 (some M) (nI n) (prI (fPa (zF s) n)) (prI (ovr f' (zR s) n))) := by
              simp only [n_X3_move_b121, t0, ob_s, mI_0]
              rw [show v0.1 0 = 0 by rw [z0, ui_1, if_pos rfl], if_pos i_le00]
              simp only [mR_5, ob_s, ma_2 n60, mg_c, gd_t, hov0, bn_s, t1, mR_6, t2, hov2]
              rw [show v0.2 2 n = prI (fPa (zF s) n) by rw [z0, ui_2, hf.pa n1]]
            have iff := (prI_eqE (ovr_bd (f' := zF s) hT.toS n) (ovr_bd (f' := f') hT.toS n)).trans (ovr_eq A A' hN hN' n1 hn')
            rw [hpre]
            simp only [iff]
            by_cases he2 : abv (zF s) (zR s) n = abv f' (zR s) n
            · rw [if_pos he2]
              obtain ⟨v4, w1, w2, w3⟩ := fin (zR s) v2 rfl hT' (hr.ag hag) (Ag_rf _ _ _)
              refine ⟨v4, _, w1, RO_ok ?_ w3⟩
              unfold movR
              rw [if_pos he2]; exact w2
            · rw [if_neg he2]
              have hc : ∃ v3, n_X3_comes (mput M S v2) (some M) (prI (ovr (zF s) (zR s) n)) 2 (nI n) = some ((), mput M S v3) ∧ Ag [] [10, 11, 12, 13] v2 v3 ∧ RMr (telS (zR s) (abv (zF s) (zR s) n) 2 n) v3 := q_tell (M := M) (S := S) A (hr.ag hag) hT hN h6 n1 (kd := 2) (n := n)
              obtain ⟨v3, g1, g2, g3⟩ := hc
              obtain ⟨v4, w1, w2, w3⟩ := fin (telS (zR s) (abv (zF s) (zR s) n) 2 n) v3 (telS_map _ _ _) (RT_tel hT' _ (by decide) hn') g3 g2
              refine ⟨v4, prI (fPa (zF s) n), by rw [g1, bn_s]; exact w1, RO_ok ?_ w3⟩
              unfold movR
              rw [if_neg he2]; exact w2
end
