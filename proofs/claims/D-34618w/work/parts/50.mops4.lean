/-! the reference's calls: remove -/
section
variable {M : Nat} {S : St} {u v w : MM} {f f' : Fl} {rs rs' : List RtV} {en : En} {ac : List AcV} {s : Sg} {rk rk' : Nat → Nat}
theorem lkA_ext {n m : Nat} (h : ∀ k, n ≤ k → en k = none) (hm : n ≤ m) : lkA en ac m = lkA en ac n := by
  induction m with
  | zero => have : n = 0 := by omega
            subst this; rfl
  | succ m ih =>
    by_cases e : n = m + 1
    · subst e; rfl
    · have h1 : n ≤ m := by omega
      simp only [lkA, h m h1, Option.isSome_none, Bool.false_eq_true, if_false]
      exact ih h1
theorem flt_step {p : RtV → Bool} {k : Nat} (hk : k < rs.length) : rs.take (k + 1) ++ (rs.drop (k + 1)).filter p = rs.take k ++ (rs[k] :: (rs.drop (k + 1)).filter p) := by
  rw [List.take_succ_eq_append_getElem hk, List.append_assoc]; rfl
theorem flt_drop {p : RtV → Bool} {k : Nat} (hk : k < rs.length) : (rs.drop k).filter p = if p rs[k] then rs[k] :: (rs.drop (k + 1)).filter p else (rs.drop (k + 1)).filter p := by
  rw [List.drop_eq_getElem_cons hk, List.filter_cons]
theorem RT_sub {l : List RtV} (h : RT f rs) (hl : l.length ≤ 3) (hs : ∀ r ∈ l, r ∈ rs) : RT f l := ⟨hl, fun r hr => h.2 r (hs r hr)⟩
theorem q_remove (h : RA s u) (A : AC (zF s) rk) (h6 : fMd (zF s) ≤ 60) (hT : RT (zF s) (zR s)) (hN : RN (zF s) (zR s)) (hB : AB (zF s) (zA s)) (hE : ES (zF s) (zE s)) (x : Int32) : ∃ v b, n_X3_remove (mput M S u) (some M) x = some (b, mput M S v) ∧ RO (opRemove s x) b v := by
  have hh := h
  obtain ⟨⟨hf, hr, he, ha, hs, hw, hnn⟩, hz⟩ := h
  have e17 : n_X3_remove_b17 (mput M S u) (some M) x (some M) = some (0, mput M S (ui u 0 1)) := by
    simp only [n_X3_remove_b17, n_X3_remove_b18, mw_0, ob_s, mI_0, ui_1, if_true, i_nle0_1, if_false, rt_i, id]
  simp only [n_X3_remove, mg_c, gd_t, q_isNode hf h6, bn_s, b2i_0, e17]
  cases hp : ndA (zF s) x with
  | none => exact ⟨ui u 0 1, 0, by simp, by simp only [opRemove, hp]; exact RO_fail hh 1 0 (by decide)⟩
  | some n =>
    obtain ⟨n1, rfl, n2⟩ := ndA_some hp h6
    have n60 : n < 60 := by omega
    simp only [Option.isSome_some, Bool.true_eq_false, if_false, nI_eq0 (show n < 2 ^ 31 by omega)]
    by_cases hn0 : n = 0
    · refine ⟨ui u 0 1, 0, by simp [hn0], ?_⟩
      subst hn0
      simp only [opRemove, hp, if_true]; exact RO_fail hh 1 0 (by decide)
    · rw [if_neg hn0]
      simp only [opRemove, hp, hn0, if_false]
      have hzl : fMd (zF s) < 2 ^ 31 := by omega
      obtain ⟨f', ef⟩ : ∃ f', f' = rmvF (zF s) n := ⟨_, rfl⟩
      rw [← ef]
      have hm : fMd f' = fMd (zF s) := by rw [ef]; rfl
      have hgo : ∀ k, k < fMd (zF s) → fGo f' k = (fGo (zF s) k || hasA (zF s) n k) := fun k hk => by
        rw [ef]; show (fGo (zF s) k || (decide (k < fMd (zF s)) && hasA (zF s) n k)) = _; simp [hk]
      obtain ⟨v0, z0⟩ : ∃ x, x = ui u 0 0 := ⟨_, rfl⟩
      have t0 := mw_0 (M := M) (S := S) (u := u) (x := 0)
      rw [← z0] at t0
      have hag0 : Ag [0] [] u v0 := by rw [z0]; exact Ag_ui u _ (by decide)
      have hov0 := q_over (M := M) (S := S) (hf.ag hag0) A (hr.ag hag0) hT.toS h6 n1
      have hcm : ∃ v1, n_X3_comes (mput M S v0) (some M) (prI (ovr (zF s) (zR s) n)) 2 (nI n) = some ((), mput M S v1) ∧ Ag [] [10, 11, 12, 13] v0 v1 ∧ RMr (telS (zR s) (abv (zF s) (zR s) n) 2 n) v1 := q_tell (M := M) (S := S) A (hr.ag hag0) hT hN h6 n1 (kd := 2) (n := n)
      obtain ⟨v1, c1, c2, c3⟩ := hcm
      obtain ⟨r0, er⟩ : ∃ r0, r0 = telS (zR s) (abv (zF s) (zR s) n) 2 n := ⟨_, rfl⟩
      rw [← er] at c3 ⊢
      have hmr : r0.map (·.1) = (zR s).map (·.1) := by rw [er]; exact telS_map _ _ _
      have hT0 : RT (zF s) r0 := by rw [er]; exact RT_tel hT _ (by decide) n1
      have hl0 := hT0.1
      have hany : (zR s).any (fun r => fGo f' r.1) = r0.any (fun r => fGo f' r.1) := by
        have e : ∀ l : List RtV, l.any (fun r => fGo f' r.1) = (l.map (·.1)).any (fun a => fGo f' a) := fun l => by rw [List.any_map]; rfl
        rw [e, e, hmr]
      rw [hany]
      have hag1 : Ag [0] [10, 11, 12, 13, 31] u v1 := Ag_tr (Ag_up hag0 (by decide) (by decide)) (Ag_up c2 (by decide) (by decide))
      -- first: who leaves
      have k1 : ∃ v2, (Ag [] [31] v1 v2 ∧ ∀ j, j < fMd (zF s) → v2.2 31 j = b2i (!fGo (zF s) j && hasA (zF s) n j)) ∧ n_X3_remove_b45 FU (mput M S v1) (some M) (nI n) (nI 0) (nI 0) = n_X3_remove_b112 FU (mput M S v2) (some M) (nI (cnB (fun k => !fGo (zF s) k && hasA (zF s) n k) (fMd (zF s)))) 0 := by
        refine lp_st (fun m k (v : MM) => n_X3_remove_b45 m (mput M S v) (some M) (nI n) (nI (cnB (fun k => !fGo (zF s) k && hasA (zF s) n k) k)) (nI k)) (fun v => n_X3_remove_b112 FU (mput M S v) (some M) (nI (cnB (fun k => !fGo (zF s) k && hasA (zF s) n k) (fMd (zF s)))) 0) (fun k v => Ag [] [31] v1 v ∧ ∀ j, j < k → v.2 31 j = b2i (!fGo (zF s) j && hasA (zF s) n j)) _ (fMd (zF s)) ?_ ?_ FU 0 v1 (Nat.zero_le _) (by simp only [FU]; omega) ⟨Ag_rf _ _ _, fun j hj => by omega⟩
        · intro m k v hk ⟨g1, g2⟩
          have hfv : RMf (zF s) v := (hf.ag hag1).ag g1
          have k60 : k < 60 := by omega
          have t := ms_31 (M := M) (S := S) (u := v) (!fGo (zF s) k && hasA (zF s) n k) k60
          refine ⟨ua v 31 k (b2i (!fGo (zF s) k && hasA (zF s) n k)), ⟨Ag_tr g1 (Ag_ua _ _ _ (by decide)), fun j hj => ?_⟩, ?_⟩
          · rw [ua_2]
            by_cases e : j = k
            · subst e; rw [if_pos ⟨rfl, rfl⟩]
            · rw [if_neg (by simp [e])]; exact g2 j (by omega)
          · have e86 : ∀ c : Int32, n_X3_remove_b86 (n_X3_remove_b45 m) (mput M S v) (some M) (nI n) c (nI k) (b2i (!fGo (zF s) k && hasA (zF s) n k)) (nI k) (some (adr M 31)) = n_X3_remove_b45 m (mput M S (ua v 31 k (b2i (!fGo (zF s) k && hasA (zF s) n k)))) (some M) (nI n) (c + (if (!fGo (zF s) k && hasA (zF s) n k) = true then 1 else 0)) (nI (k + 1)) := by
              intro c
              simp only [n_X3_remove_b86, n_X3_remove_b102, t, ob_s, mR_43, ma_31 k60, nI_1]
              rw [show (ua v 31 k (b2i (!fGo (zF s) k && hasA (zF s) n k))).2 31 k = b2i (!fGo (zF s) k && hasA (zF s) n k) by rw [ua_2, if_pos ⟨rfl, rfl⟩]]
              simp only [b2i_0]
              rcases Bool.eq_false_or_eq_true (!fGo (zF s) k && hasA (zF s) n k) with hb | hb <;> simp [hb]
            simp only [n_X3_remove_b45, mI_2, ob_s, hfv.1, nI_leE hzl (show k < 2 ^ 31 by omega), mR_43, mR_3, ma_0 k60, hfv.go hk, b2i_0, nI_eqE (show k < 2 ^ 31 by omega) (show n < 2 ^ 31 by omega), mg_c, gd_t, q_isBelow hfv A h6 hk n60, bn_s]
            rw [if_neg (by omega)]
            have c85 : n_X3_remove_b85 (n_X3_remove_b45 m) (mput M S v) (some M) (nI n) (nI (cnB (fun k => !fGo (zF s) k && hasA (zF s) n k) k)) (nI k) (nI k) (some (adr M 31)) = n_X3_remove_b86 (n_X3_remove_b45 m) (mput M S v) (some M) (nI n) (nI (cnB (fun k => !fGo (zF s) k && hasA (zF s) n k) k)) (nI k) (b2i false) (nI k) (some (adr M 31)) := rfl
            have c81 : n_X3_remove_b81 (n_X3_remove_b45 m) (mput M S v) (some M) (nI n) (nI (cnB (fun k => !fGo (zF s) k && hasA (zF s) n k) k)) (nI k) (nI k) (some (adr M 31)) = n_X3_remove_b86 (n_X3_remove_b45 m) (mput M S v) (some M) (nI n) (nI (cnB (fun k => !fGo (zF s) k && hasA (zF s) n k) k)) (nI k) (b2i true) (nI k) (some (adr M 31)) := rfl
            rw [c85, c81]
            have fin := e86 (nI (cnB (fun k => !fGo (zF s) k && hasA (zF s) n k) k))
            have ec : nI (cnB (fun k => !fGo (zF s) k && hasA (zF s) n k) k) + (if (!fGo (zF s) k && hasA (zF s) n k) = true then 1 else 0) = nI (cnB (fun k => !fGo (zF s) k && hasA (zF s) n k) (k + 1)) := by
              simp only [cnB]
              split
              · exact nI_1 _
              · exact Int32.add_zero _
            rw [ec] at fin
            rw [← fin]
            rcases Bool.eq_false_or_eq_true (fGo (zF s) k) with b1 | b1
            · simp [b1]
            · by_cases e : k = n
              · subst e; simp [b1, hasA]
              · rcases Bool.eq_false_or_eq_true (blw (zF s) k n) with b2 | b2 <;> simp [b1, e, b2, hasA, beq_false_of_ne e]
        · intro m v ⟨g1, g2⟩
          have hfv : RMf (zF s) v := (hf.ag hag1).ag g1
          refine ⟨v, ⟨g1, g2⟩, ?_⟩
          simp only [n_X3_remove_b45, mI_2, ob_s, hfv.1, nI_leE hzl hzl, Nat.le_refl, if_true]
      obtain ⟨v2, ⟨g1, g2⟩, k1⟩ := k1
      -- then they go
      obtain ⟨C, eC⟩ : ∃ C, C = nI (cnB (fun k => !fGo (zF s) k && hasA (zF s) n k) (fMd (zF s))) := ⟨_, rfl⟩
      rw [← eC] at k1 ⊢
      have k2 : ∃ v3, (Ag [] [0] v2 v3 ∧ ∀ j, j < fMd (zF s) → v3.2 0 j = b2i (!fGo f' j)) ∧ n_X3_remove_b112 FU (mput M S v2) (some M) C (nI 0) = n_X3_remove_b168 FU (mput M S v3) (some M) C (nI r0.length) (nI r0.length - 1) := by
        refine lp_st (fun m k (v : MM) => n_X3_remove_b112 m (mput M S v) (some M) C (nI k)) (fun v => n_X3_remove_b168 FU (mput M S v) (some M) C (nI r0.length) (nI r0.length - 1)) (fun k v => Ag [] [0] v2 v ∧ (∀ j, j < k → v.2 0 j = b2i (!fGo f' j)) ∧ ∀ j, k ≤ j → v.2 0 j = v2.2 0 j) _ (fMd (zF s)) ?_ ?_ FU 0 v2 (Nat.zero_le _) (by simp only [FU]; omega) ⟨Ag_rf _ _ _, fun j hj => by omega, fun j hj => rfl⟩
        · intro m k v hk ⟨q1, q2, q3⟩
          have k60 : k < 60 := by omega
          have hmd : v.1 2 = nI (fMd (zF s)) := by rw [q1.1 2 (by decide), g1.1 2 (by decide), hag1.1 2 (by decide)]; exact hf.1
          have hgk : v.2 0 k = b2i (!fGo (zF s) k) := by
            rw [q3 k (Nat.le_refl _), g1.2 0 (by decide), hag1.2 0 (by decide)]; exact hf.go hk
          have hlk : v.2 31 k = b2i (!fGo (zF s) k && hasA (zF s) n k) := by rw [q1.2 31 (by decide)]; exact g2 k hk
          have t := ms_0 (M := M) (S := S) (u := v) (!fGo f' k) k60
          refine ⟨ua v 0 k (b2i (!fGo f' k)), ⟨Ag_tr q1 (Ag_ua _ _ _ (by decide)), fun j hj => ?_, fun j hj => ?_⟩, ?_⟩
          · rw [ua_2]
            by_cases e : j = k
            · subst e; rw [if_pos ⟨rfl, rfl⟩]
            · rw [if_neg (by simp [e])]; exact q2 j (by omega)
          · rw [ua_2, if_neg (by simp; omega)]; exact q3 j (by omega)
          · have fin : n_X3_remove_b148 (n_X3_remove_b112 m) (mput M S v) (some M) C (nI k) (b2i (!fGo f' k)) (nI k) (some (adr M 0)) = n_X3_remove_b112 m (mput M S (ua v 0 k (b2i (!fGo f' k)))) (some M) C (nI (k + 1)) := by
              simp only [n_X3_remove_b148, t, ob_s, nI_1]
            have c147 : n_X3_remove_b147 (n_X3_remove_b112 m) (mput M S v) (some M) C (nI k) (nI k) (some (adr M 0)) = n_X3_remove_b148 (n_X3_remove_b112 m) (mput M S v) (some M) C (nI k) (b2i false) (nI k) (some (adr M 0)) := rfl
            have c1 : n_X3_remove_b148 (n_X3_remove_b112 m) (mput M S v) (some M) C (nI k) 1 (nI k) (some (adr M 0)) = n_X3_remove_b148 (n_X3_remove_b112 m) (mput M S v) (some M) C (nI k) (b2i true) (nI k) (some (adr M 0)) := rfl
            simp only [n_X3_remove_b112, mI_2, ob_s, hmd, nI_leE hzl (show k < 2 ^ 31 by omega), mR_3, ma_0 k60, hgk, b2i_0, mR_43, ma_31 k60, hlk, c147, c1]
            rw [if_neg (by omega), ← fin, hgo k hk]
            rcases Bool.eq_false_or_eq_true (fGo (zF s) k) with b1 | b1
            · simp [b1]
            · rcases Bool.eq_false_or_eq_true (hasA (zF s) n k) with b2 | b2 <;> simp [b1, b2]
        · intro m v ⟨q1, q2, q3⟩
          have hmd : v.1 2 = nI (fMd (zF s)) := by rw [q1.1 2 (by decide), g1.1 2 (by decide), hag1.1 2 (by decide)]; exact hf.1
          have hrl : v.1 12 = nI r0.length := by rw [q1.1 12 (by decide), g1.1 12 (by decide)]; exact c3.1
          refine ⟨v, ⟨q1, q2⟩, ?_⟩
          simp only [n_X3_remove_b112, mI_2, mI_12, ob_s, hmd, hrl, nI_leE hzl hzl, Nat.le_refl, if_true]
      obtain ⟨v3, ⟨g3, g4⟩, k2⟩ := k2
      have hag3 : Ag [0] [0, 10, 11, 12, 13, 31] u v3 := Ag_tr (Ag_up hag1 (by decide) (by decide)) (Ag_tr (Ag_up g1 (by decide) (by decide)) (Ag_up g3 (by decide) (by decide)))
      have hf3 : RMf f' v3 := by
        refine ⟨by rw [hag3.1 2 (by decide), hm]; exact hf.1, fun k hk => ?_⟩
        have hk : k < fMd (zF s) := by omega
        obtain ⟨a0, a1, a2, a3, a4, a5, a6, a7, a8⟩ := hf.2 k hk
        rw [hag3.2 1 (by decide), hag3.2 2 (by decide), hag3.2 3 (by decide), hag3.2 4 (by decide), hag3.2 5 (by decide), hag3.2 6 (by decide), hag3.2 7 (by decide), hag3.2 8 (by decide)]
        refine ⟨g4 k hk, ?_⟩
        rw [ef]
        exact ⟨a1, a2, a3, a4, a5, a6, a7, a8⟩
      have hr3 : RMr r0 v3 := (c3.ag g1).ag g3
      have ha3 : RMa (zA s) v3 := ((ha.ag hag1).ag g1).ag g3
      have he3 : RMe f' (zE s) v3 := by
        have := ((he.ag hag1).ag g1).ag g3
        rw [ef]; exact this
      have hT3 : RT f' r0 := RT_fl hT0 hm
      -- roots that are gone
      have hn3 : ∀ k, fMd (zF s) ≤ k → zE s k = none := fun k hk => by
        cases hek : zE s k with
        | none => rfl
        | some e => have := (hE k e hek).1; omega
      have hB3 : AB f' (zA s) := ⟨hB.1, fun a ha => by rw [hm]; exact hB.2 a ha⟩
      have k3 : ∃ b, n_X3_remove_b168 FU (mput M S v3) (some M) C (nI r0.length) (nI r0.length - 1) = some b ∧ ∃ v4, b = (C, mput M S v4) ∧ Ag [12, 30] [9, 10, 11, 12, 13, 14, 15, 16, 17, 24, 25, 26] v3 v4 ∧ RMr (r0.filter fun r => !fGo f' r.1) v4 ∧ RMa (if r0.any (fun r => fGo f' r.1) then lkA (zE s) (zA s) 60 else zA s) v4 := by
        refine lp_exd (fun m k (v : MM) => n_X3_remove_b168 m (mput M S v) (some M) C (nI r0.length) (nI k - 1)) (fun k v => k ≤ r0.length ∧ Ag [12] [9, 10, 11, 12, 13, 14, 15, 16, 17] v3 v ∧ RMr (r0.take k ++ (r0.drop k).filter fun r => !fGo f' r.1) v) (fun b => ∃ v4, b = (C, mput M S v4) ∧ Ag [12, 30] [9, 10, 11, 12, 13, 14, 15, 16, 17, 24, 25, 26] v3 v4 ∧ RMr (r0.filter fun r => !fGo f' r.1) v4 ∧ RMa (if r0.any (fun r => fGo f' r.1) then lkA (zE s) (zA s) 60 else zA s) v4) ?_ ?_ FU r0.length v3 (by simp only [FU]; omega) ⟨Nat.le_refl _, Ag_rf _ _ _, by simpa using hr3⟩
        · intro m k v ⟨hk, q1, q2⟩
          refine Or.inl ?_
          have hkl : k < r0.length := by omega
          rw [flt_step hkl] at q2
          have hlen : (r0.take k).length = k := by simp; omega
          have hget : (r0.take k ++ (r0[k] :: (r0.drop (k + 1)).filter fun r => !fGo f' r.1))[k]? = some r0[k] := by
            rw [List.getElem?_append_right (by omega), hlen]; simp
          have hrk := hT3.2 r0[k] (List.getElem_mem hkl)
          have hfv : RMf f' v := hf3.ag q1
          have hr1 : r0[k].1 < 60 := by have := hrk.1; omega
          have hTv : RT f' (r0.take k ++ (r0[k] :: (r0.drop (k + 1)).filter fun r => !fGo f' r.1)) := by
            refine RT_sub hT3 ?_ ?_
            · have h1 := List.length_filter_le (fun r : RtV => !fGo f' r.1) (r0.drop (k + 1))
              rw [List.length_drop] at h1
              rw [List.length_append, List.length_cons, hlen]; omega
            · intro r hr
              rcases List.mem_append.mp hr with z | z
              · exact List.mem_of_mem_take z
              · rcases List.mem_cons.mp z with rfl | z
                · exact List.getElem_mem hkl
                · exact List.mem_of_mem_drop (List.mem_filter.mp z).1
          simp only [n_X3_remove_b168, n_X3_remove_b194, nI_pred, nI_lt0 (show k < 2 ^ 31 by omega), if_false, mR_3, mR_13, ob_s, ma_9 (show k < 4 by omega), q2.at hget, ma_0 hr1, hfv.go hrk.1, b2i_0, mg_c, gd_t]
          rw [flt_drop hkl]
          rcases Bool.eq_false_or_eq_true (fGo f' r0[k].1) with b1 | b1
          · obtain ⟨v5, d1, d2, d3⟩ := q_drops (M := M) (S := S) q2 hTv (by omega) (i := k) (by rw [List.length_append, List.length_cons, hlen]; omega)
            refine ⟨v5, ⟨by omega, Ag_tr q1 d2, ?_⟩, ?_⟩
            · rw [List.eraseIdx_append_of_length_le (by omega), hlen] at d3
              simpa [b1] using d3
            · simp [b1, d1, bn_s, i_sub1]
          · refine ⟨v, ⟨by omega, q1, by simpa [b1] using q2⟩, ?_⟩
            simp [b1, i_sub1]
        · intro m v ⟨hk, q1, q2⟩
          have q2 : RMr (r0.filter fun r => !fGo f' r.1) v := by simpa using q2
          have hle := List.length_filter_le (fun r : RtV => !fGo f' r.1) r0
          have e0 : (nI 0 - 1 < 0) = True := by simp; decide
          have hlt : ((r0.filter fun r => !fGo f' r.1).length = r0.length) = (r0.any (fun r => fGo f' r.1) = false) := by
            rw [List.any_eq_false]
            refine propext ⟨fun z r hr => ?_, fun z => ?_⟩
            · have := List.length_filter_eq_length_iff.mp z r hr
              simpa using this
            · refine List.length_filter_eq_length_iff.mpr fun r hr => ?_
              have := z r hr
              simpa using this
          simp only [n_X3_remove_b168, e0, if_true, mI_12, ob_s, q2.1, nI_leE (show r0.length < 2 ^ 31 by omega) (show (r0.filter fun r => !fGo f' r.1).length < 2 ^ 31 by omega), mg_c, gd_t, rt_i, id]
          rcases Bool.eq_false_or_eq_true (r0.any (fun r => fGo f' r.1)) with b1 | b1
          · have hne : ¬ (r0.filter fun r => !fGo f' r.1).length = r0.length := by rw [hlt, b1]; simp
            rw [if_neg (by omega)]
            obtain ⟨v5, d1, d2, d3, d4⟩ := q_looksAtLost (M := M) (S := S) (hf3.ag q1) (he3.ag q1) (ha3.ag q1) hB3 (by omega)
            refine ⟨_, by rw [d1, bn_s], v5, rfl, Ag_tr (Ag_up q1 (by decide) (by decide)) (Ag_up d2 (by decide) (by decide)), q2.ag d2, ?_⟩
            rw [b1, if_pos rfl, lkA_ext hn3 h6, ← hm]; exact d3
          · have heq : (r0.filter fun r => !fGo f' r.1).length = r0.length := by rw [hlt, b1]
            rw [if_pos (by omega)]
            refine ⟨_, rfl, v, rfl, Ag_up q1 (by decide) (by decide), q2, ?_⟩
            rw [b1]; exact ha3.ag q1
      obtain ⟨b, k3, v4, rfl, d1, d2, d3⟩ := k3
      refine ⟨v4, C, ?_, RO_ok ⟨⟨hf3.ag d1, d2, he3.ag d1, d3, (((hs.ag hag1).ag g1).ag g3).ag d1, (((hw.ag hag1).ag g1).ag g3).ag d1, (((hnn.ag hag1).ag g1).ag g3).ag d1⟩, ?_⟩ ?_⟩
      · simp only [n_X3_remove_b18, t0, ob_s, mI_0]
        rw [show v0.1 0 = 0 by rw [z0, ui_1, if_pos rfl], if_pos i_le00]
        simp only [mg_c, gd_t, hov0, bn_s, c1]
        rw [nI_0] at k1 k2
        rw [k1, k2, k3]
      · have := (((hz.ag hag1).ag g1).ag g3).ag d1
        rw [ef]; exact this
      · rw [d1.1 0 (by decide), g3.1 0 (by decide), g1.1 0 (by decide), c2.1 0 (by decide), z0, ui_1, if_pos rfl]
end
