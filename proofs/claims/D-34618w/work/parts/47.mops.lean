/-! the reference's calls: files -/
section
variable {M : Nat} {S : St} {u v w : MM} {s : Sg} {rk : Nat → Nat}
def RO (o : Ro) (b : Int32) (v : MM) : Prop := v.1 0 = o.1 ∧ (o.1 = 0 → b = o.2.1) ∧ RA o.2.2 v
theorem RA.ag (h : RA s u) (g : Ag [0, 44] [31, 32] u v) : RA s v := ⟨⟨h.1.1.ag g, h.1.2.1.ag g, h.1.2.2.1.ag g, h.1.2.2.2.1.ag g, h.1.2.2.2.2.1.ag g, h.1.2.2.2.2.2.1.ag g, h.1.2.2.2.2.2.2.ag g⟩, h.2.ag g⟩
theorem RA.th (h : RA s u) (c : Int32) : RA s (ui u 0 c) := h.ag (Ag_ui u c (by decide))
theorem RO_fail (h : RA s u) (c b : Int32) (hc : c ≠ 0) : RO (c, 0, s) b (ui u 0 c) := ⟨by simp [ui_1], fun z => absurd z hc, h.th c⟩
theorem RO_ok {c : Int32} {s' : Sg} (h : RA s' v) (ht : v.1 0 = 0) : RO (0, c, s') c v := ⟨ht, fun _ => rfl, h⟩
theorem i_nle0_1 : ¬ (1 : Int32) ≤ 0 := by decide
theorem i_nle0_2 : ¬ (2 : Int32) ≤ 0 := by decide
theorem i_nle0_3 : ¬ (3 : Int32) ≤ 0 := by decide
theorem i_le00 : (0 : Int32) ≤ 0 := by decide
theorem nm_fit {nm : Int32} (h : inI nm 97 122 = true) : gfit .char nm = true := by
  simp only [inI, Bool.and_eq_true, Bool.not_eq_true', decide_eq_false_iff_not] at h
  simp only [gfit, decide_eq_true_eq]
  have h1 := Int32.not_lt.mp h.1
  have h2 := Int32.not_lt.mp h.2
  exact ⟨Int32.le_trans (by decide) h1, Int32.le_trans h2 (by decide)⟩
theorem q_make (h : RA s u) (A : AC (zF s) rk) (hE : ES (zF s) (zE s)) (h6 : fMd (zF s) ≤ 60) (x nm : Int32) (fo : Bool) (hx : ∀ p, foA (zF s) x = some p → fMd (zF s) < 60 → (∃ rk', AC (mkF (zF s) p nm fo) rk') ∧ RT (mkF (zF s) p nm fo) (zR s) ∧ RN (mkF (zF s) p nm fo) (zR s)) : ∃ v b, n_X3_make (mput M S u) (some M) x nm (b2i fo) = some (b, mput M S v) ∧ RO (opMake s x nm fo) b v := by
  have hh := h
  obtain ⟨⟨hf, hr, he, ha, hs, hw, hn⟩, hz⟩ := h
  simp only [n_X3_make, mg_c, gd_t, q_isFolderAt hf h6, bn_s, b2i_0]
  cases hp : foA (zF s) x with
  | none =>
    refine ⟨ui u 0 1, 0, ?_, ?_⟩
    · simp only [Option.isSome_none, if_true, q_fails, bn_s, rt_i, id]
    · simp only [opMake, hp]; exact RO_fail hh 1 0 (by decide)
  | some p =>
    obtain ⟨p1, rfl, p2, p3⟩ := foA_some hp h6
    simp only [Option.isSome_some, Bool.true_eq_false, if_false, q_in, bn_s, b2i_0]
    cases hi : inI nm 97 122 with
    | false =>
      refine ⟨ui u 0 2, 0, ?_, ?_⟩
      · simp only [if_true, n_X3_make_b54, mw_0, ob_s, mI_0, ui_1, i_nle0_2, if_false, rt_i, id]
      · simp only [opMake, hp, hi, if_true]; exact RO_fail hh 2 0 (by decide)
    | true =>
      have hta := q_isTaken (M := M) (S := S) hf A h6 p1 nm none (fun b hb => by cases hb)
      rw [prI_n] at hta
      simp only [Bool.true_eq_false, if_false, hta, bn_s, b2i_0, mI_2, ob_s, hf.1, li_60, nI_eqE (show fMd (zF s) < 2 ^ 31 by omega) (show 60 < 2 ^ 31 by decide)]
      by_cases hc : tkn (zF s) p nm none = true ∨ fMd (zF s) = 60
      · refine ⟨ui u 0 3, 0, ?_, ?_⟩
        · have e3 : n_X3_make_b49 (mput M S u) (some M) (nI p) nm (b2i fo) (some M) = some (0, mput M S (ui u 0 3)) := by
            simp only [n_X3_make_b49, n_X3_make_b54, mw_0, ob_s, mI_0, ui_1, if_true, i_nle0_3, if_false, rt_i, id]
          rcases hc with hc | hc
          · simp only [hc, Bool.true_eq_false, if_false, e3, mg_c, gd_t]
          · simp only [hc, if_true, e3, mg_c, gd_t]
            split <;> rfl
        · simp only [opMake, hp, hi, Bool.true_eq_false, if_false]; rw [if_pos hc]; exact RO_fail hh 3 0 (by decide)
      · have hc1 : tkn (zF s) p nm none = false := by simpa using fun z => hc (Or.inl z)
        have hc2 : ¬ fMd (zF s) = 60 := fun z => hc (Or.inr z)
        have hlt : fMd (zF s) < 60 := by omega
        obtain ⟨⟨rk', A'⟩, hT', hN'⟩ := hx p hp hlt
        simp only [hc1, if_true, hc2, if_false]
        simp only [opMake, hp, hi, Bool.true_eq_false, if_false]
        rw [if_neg hc]
        obtain ⟨n, en⟩ : ∃ n, n = fMd (zF s) := ⟨_, rfl⟩
        rw [← en] at hlt ⊢
        obtain ⟨v0, z0⟩ : ∃ x, x = ui u 0 0 := ⟨_, rfl⟩
        obtain ⟨v1, z1⟩ : ∃ x, x = ua v0 0 n (b2i true) := ⟨_, rfl⟩
        obtain ⟨v2, z2⟩ : ∃ x, x = ua v1 1 n (b2i fo) := ⟨_, rfl⟩
        obtain ⟨v3, z3⟩ : ∃ x, x = ua v2 2 n (nI p) := ⟨_, rfl⟩
        obtain ⟨v4, z4⟩ : ∃ x, x = ua v3 3 n nm := ⟨_, rfl⟩
        obtain ⟨v5, z5⟩ : ∃ x, x = ua v4 4 n (b2i true) := ⟨_, rfl⟩
        obtain ⟨v6, z6⟩ : ∃ x, x = ua v5 8 n 15 := ⟨_, rfl⟩
        obtain ⟨v7, z7⟩ : ∃ x, x = ui v6 2 (nI (n + 1)) := ⟨_, rfl⟩
        have t0 := mw_0 (M := M) (S := S) (u := u) (x := 0)
        have t1 := ms_0 (M := M) (S := S) (u := v0) true hlt
        have t2 := ms_1 (M := M) (S := S) (u := v1) fo hlt
        have t3 := ms_2 (M := M) (S := S) (u := v2) (x := nI p) hlt
        have t4 := ms_3 (M := M) (S := S) (u := v3) (x := nm) hlt (nm_fit hi)
        have t5 := ms_4 (M := M) (S := S) (u := v4) (x := b2i true) hlt
        have t6 := ms_8 (M := M) (S := S) (u := v5) (x := 15) hlt
        have t7 := mw_2 (M := M) (S := S) (u := v6) (x := nI (n + 1))
        rw [← z0] at t0
        rw [← z1] at t1
        rw [← z2] at t2
        rw [← z3] at t3
        rw [← z4] at t4
        rw [← z5] at t5
        rw [← z6] at t6
        rw [← z7] at t7
        have e2 : v0.1 2 = nI n := by rw [z0, ui_1, if_neg (by decide), hf.1, ← en]
        have e26 : v6.1 2 = nI n := by rw [z6, z5, z4, z3, z2, z1]; exact e2
        have hag : Ag [0, 2] [0, 1, 2, 3, 4, 8] u v7 := by
          rw [z7, z6, z5, z4, z3, z2, z1, z0]
          exact Ag_tr (Ag_tr (Ag_tr (Ag_tr (Ag_tr (Ag_tr (Ag_tr (Ag_ui u _ (by decide)) (Ag_ua _ _ _ (by decide))) (Ag_ua _ _ _ (by decide))) (Ag_ua _ _ _ (by decide))) (Ag_ua _ _ _ (by decide))) (Ag_ua _ _ _ (by decide))) (Ag_ua _ _ _ (by decide))) (Ag_ui _ _ (by decide))
        have hf7 : RMf (mkF (zF s) p nm fo) v7 := by
          refine ⟨by rw [z7, ui_1, if_pos rfl, en]; rfl, fun k hk => ?_⟩
          have hk1 : k < n + 1 := by rw [en]; exact hk
          by_cases e : k = n
          · subst e
            have hzk := hz k (by omega) hlt
            simp only [fFo_mkF, fPa_mkF, fNm_mkF, fEd_mkF, fMk_mkF, fLk_mkF, fPp_mkF, fGo_mkF, ← en, fu_s]
            refine ⟨?_, ?_, ?_, ?_, ?_, ?_, fun j m hj => ?_, ?_, ?_⟩
            · simp [z7, z6, z5, z4, z3, z2, z1, ui_2, ua_2]
            · simp [z7, z6, z5, z4, z3, z2, z1, ui_2, ua_2]
            · simp [z7, z6, z5, z4, z3, z2, z1, ui_2, ua_2, prI]
            · simp [z7, z6, z5, z4, z3, z2, z1, ui_2, ua_2]
            · simp [z7, z6, z5, z4, z3, z2, z1, ui_2, ua_2]; rfl
            · rw [hag.2 5 (by decide)]; exact hzk.1
            · simp at hj
            · rw [hag.2 7 (by decide)]; exact hzk.2
            · simp [z7, z6, z5, z4, z3, z2, z1, ui_2, ua_2]
          · have hk2 : k < fMd (zF s) := by omega
            obtain ⟨k0, k1, k2, k3, k4, k5, k6, k7, k8⟩ := hf.2 k hk2
            simp only [fFo_mkF, fPa_mkF, fNm_mkF, fEd_mkF, fMk_mkF, fLk_mkF, fPp_mkF, fGo_mkF, ← en, fu_n _ _ e]
            refine ⟨?_, ?_, ?_, ?_, ?_, ?_, fun j m hj => ?_, ?_, ?_⟩
            · simp [z7, z6, z5, z4, z3, z2, z1, z0, ui_2, ua_2, e]; exact k0
            · simp [z7, z6, z5, z4, z3, z2, z1, z0, ui_2, ua_2, e]; exact k1
            · simp [z7, z6, z5, z4, z3, z2, z1, z0, ui_2, ua_2, e]; exact k2
            · simp [z7, z6, z5, z4, z3, z2, z1, z0, ui_2, ua_2, e]; exact k3
            · simp [z7, z6, z5, z4, z3, z2, z1, z0, ui_2, ua_2, e]; exact k4
            · rw [hag.2 5 (by decide)]; exact k5
            · rw [hag.2 6 (by decide)]; exact k6 j m hj
            · rw [hag.2 7 (by decide)]; exact k7
            · simp [z7, z6, z5, z4, z3, z2, z1, z0, ui_2, ua_2, e]; exact k8
        have hm' : fMd (mkF (zF s) p nm fo) = n + 1 := by rw [en]; rfl
        have hov := q_over (M := M) (S := S) hf7 A' (hr.ag hag) hT'.toS (by omega) (show n < fMd (mkF (zF s) p nm fo) by omega)
        obtain ⟨v8, g1, g2, g3⟩ := q_tell (M := M) (S := S) A' (hr.ag hag) hT' hN' (by omega) (show n < fMd (mkF (zF s) p nm fo) by omega) (kd := 0) (n := n)
        rw [nI_0] at g1
        refine ⟨v8, nI n, ?_, RO_ok ⟨⟨hf7.ag g2, g3, ?_, (ha.ag hag).ag g2, (hs.ag hag).ag g2, (hw.ag hag).ag g2, (hn.ag hag).ag g2⟩, fun k h1 h2 => ?_⟩ ?_⟩
        · simp only [n_X3_make_b54, t0, ob_s, mI_0]
          rw [show v0.1 0 = 0 by rw [z0, ui_1, if_pos rfl], if_pos i_le00]
          simp only [mI_2, ob_s, e2, mR_3]
          rw [show (1 : Int32) = b2i true from rfl]
          simp only [t1, ob_s, mR_4, t2, mR_5, t3, mR_6, t4, mR_7, t5, mR_11, t6, mI_2, e26]
          rw [show nI n + b2i true = nI (n + 1) from nI_1 n]
          simp only [t7, ob_s, mg_c, gd_t, hov, bn_s, g1, rt_i, id]
        · intro k hk
          have h9 := ((he.ag hag).ag g2) k hk
          refine ⟨h9.1, fun e hee => ?_⟩
          obtain ⟨a1, a2, a3, a4⟩ := h9.2 e hee
          refine ⟨a1, a2, a3, fun hfo => a4 ?_⟩
          by_cases ek : k = n
          · have := (hE k e hee).1
            omega
          · rw [fFo_mkF, ← en, fu_n _ _ ek] at hfo; exact hfo
        · have h1' : n + 1 ≤ k := by rw [← hm']; exact h1
          rw [g2.2 5 (by decide), g2.2 7 (by decide), hag.2 5 (by decide), hag.2 7 (by decide)]
          exact hz k (by omega) h2
        · rw [g2.1 0 (by decide), z7, ui_1, if_neg (by decide), z6, z5, z4, z3, z2, z1]
          show v0.1 0 = 0
          rw [z0, ui_1, if_pos rfl]
end
