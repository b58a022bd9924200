/-! the keeper's work: an entry, and what lies below, is dropped -/
section
variable {S S' S1 : St} {g g' : GA} {T U : List Nat} {n m a b c x y t i : Nat} {f f' : Fl} {rs : List RtV} {en : En} {o : Nat → Option Nat} {ac : List AcV} {sg : List SgV} {w : Int64} {nm : Nm} {s : Sg} {rk : Nat → Nat} {k p : Nat} {e : EnV}
/-- a temporary owner -/
theorem RK_own (h : RK g s S) (hz : (g.1 a).1 = 0) (ha : a < S.2.1) (t i : Nat) : RK (newO g a t i) s S := by
  have x : KX [0] [] 0 g S (newO g a t i) S := KX_own hz t i (by decide)
  obtain ⟨h1, h2, h3, h4, h5, h6, h7, h8⟩ := h
  exact ⟨h1.kx x, h2.kx x, h3.kx x, h4.kx x, h5.kx x, h6.kx x, h7.kx x, h8.kx x (FR_own h8.2.2.2 ha t i)⟩
/-- entries that are dropped, below a number -/
def drL (rs : List RtV) (en : En) (n : Nat) : Nat → List Nat
  | 0 => []
  | k + 1 => if drS rs en n k then drL rs en n k ++ [k] else drL rs en n k
theorem RK.kx40 (h : RK g s S) (x : KX [0, 40] [] n g S g S') : RK g s S' := by
  obtain ⟨h1, h2, h3, h4, h5, h6, h7, h8⟩ := h
  exact ⟨h1.kx x, h2.kx x, h3.kx x, h4.kx x, h5.kx x, h6.kx x, h7.kx x, h8.kx x (FR_sm h8.2.2.2 x.le)⟩
theorem drL_len (n : Nat) : ∀ k, (drL rs en n k).length ≤ cnB (fun k => (en k).isSome) k := by
  intro k
  induction k with
  | zero => exact Nat.le_refl _
  | succ k ih =>
    simp only [drL, cnB]
    by_cases c : drS rs en n k = true
    · have : (en k).isSome = true := by
        unfold drS at c
        rw [Bool.and_eq_true] at c
        exact c.1
      rw [if_pos c, if_pos this]; simp; omega
    · rw [if_neg c]; omega
theorem k_drop1 (h : RK g s S) (hT : RT (zF s) (zR s)) (hE : ES (zF s) (zE s)) (h6 : fMd (zF s) ≤ 60) (hn : n < fMd (zF s)) {L : Nat} (hL : g.1 L = (40, 0)) (hl : isAL S L []) (hK : alK S L = 0) : ∃ S', n_X1_drop_b10 FU S (some (g.2 1 0)) (some (g.2 2 n)) (some L) 0 = (bn (h_J2_iterator S' (some L)) fun v2 S1 => n_X1_drop_b84 FU S1 (some (g.2 1 0)) v2) ∧ KX [0, 40] [] (62 * cnB (fun k => (zE s k).isSome) 60 + alK S' L) g S g S' ∧ isAL S' L ((drL (zR s) (zE s) n 60).map fun k => some (g.2 9 k)) ∧ alK S' L ≤ 10 + 2 * (drL (zR s) (zE s) n 60).length := by
  have key := lp_st (fun m k (c : St) => n_X1_drop_b10 m c (some (g.2 1 0)) (some (g.2 2 n)) (some L) (nI k)) (fun c => bn (h_J2_iterator c (some L)) fun v2 S1 => n_X1_drop_b84 FU S1 (some (g.2 1 0)) v2) (fun k c => KX [0, 40] [] (62 * cnB (fun k => (zE s k).isSome) k + alK c L) g S g c ∧ isAL c L ((drL (zR s) (zE s) n k).map fun k => some (g.2 9 k)) ∧ alK c L ≤ 10 + 2 * (drL (zR s) (zE s) n k).length) (fun c => KX [0, 40] [] (62 * cnB (fun k => (zE s k).isSome) 60 + alK c L) g S g c ∧ isAL c L ((drL (zR s) (zE s) n 60).map fun k => some (g.2 9 k)) ∧ alK c L ≤ 10 + 2 * (drL (zR s) (zE s) n 60).length) 60 ?_ ?_ FU 0 S (Nat.zero_le _) (by simp only [FU]; omega) ⟨KX_n (KX_rf (by decide)) (Nat.zero_le _), hl, by omega⟩
  · obtain ⟨c, hc, e⟩ := key
    rw [nI_0] at e
    exact ⟨c, e, hc⟩
  · intro m k c hk ⟨hx, hal, hak⟩
    obtain ⟨h1, h2, h3, h4, h5, h6', h7, h8⟩ := h.kx40 hx
    have e60 : ¬ (60 : Int32) ≤ nI k := by rw [li_60, nI_leE (by decide) (by omega)]; omega
    -- an entry is added
    have add : ∀ (c1 : St) (q : Nat), KX [0] [] q g c g c1 → q ≤ 62 → (zE s k).isSome = true → drS (zR s) (zE s) n k = true → ∃ c', (KX [0, 40] [] (62 * cnB (fun k => (zE s k).isSome) (k + 1) + alK c' L) g S g c' ∧ isAL c' L ((drL (zR s) (zE s) n (k + 1)).map fun k => some (g.2 9 k)) ∧ alK c' L ≤ 10 + 2 * (drL (zR s) (zE s) n (k + 1)).length) ∧ n_X1_drop_b58 (n_X1_drop_b10 m) c1 (some (g.2 1 0)) (some (g.2 2 n)) (some L) (nI k) = n_X1_drop_b10 m c' (some (g.2 1 0)) (some (g.2 2 n)) (some L) (nI (k + 1)) := by
      intro c1 q xq hq hek hd
      have f1 := h1.kx xq
      have e1 := h4.kx xq
      have hat : c1.1 L = c.1 L := xq.at1 hL (by decide)
      have hal1 := hal.fr hat
      have hK1 := alK_fr hat
      obtain ⟨ev, hev⟩ := Option.isSome_iff_exists.mp hek
      have hlen := drL_len (rs := zR s) (en := zE s) n k
      have hcn := cnB_le (fun k => (zE s k).isSome) k
      obtain ⟨c', a1, a2, a3, a4, a5⟩ := al_addK hal1 (x := some (g.2 9 k)) (okst_g (e1.cl hev) (by decide)) (by rw [List.length_map]; omega)
      have er : drL (zR s) (zE s) n (k + 1) = drL (zR s) (zE s) n k ++ [k] := by simp only [drL]; rw [if_pos hd]
      have ec : cnB (fun k => (zE s k).isSome) (k + 1) = cnB (fun k => (zE s k).isSome) k + 1 := by simp only [cnB]; rw [if_pos hek]
      refine ⟨c', ⟨KX_n (KX_tr (KX_tr hx (KX_up xq (by decide) (by decide) (Nat.le_refl _))) (KX_ch1 a5 hL)) ?_, ?_, ?_⟩, ?_⟩
      · rw [ec]; omega
      · rw [er, List.map_append]; exact a2
      · rw [List.length_map] at a4
        rw [er, List.length_append]
        simp only [List.length_cons, List.length_nil]
        omega
      · simp only [n_X1_drop_b58, n_X1_drop_b71, kn_2 f1, ob_s, en_get e1 (show k < 60 by omega), hek, if_true, hal1.cl, gd_t, a1, bn_s, nI_1]
    have skip : ∀ (c1 : St) (q : Nat), KX [0] [] q g c g c1 → (q = 0 ∨ ((zE s k).isSome = true ∧ q ≤ 62)) → drS (zR s) (zE s) n k = false → ∃ c', (KX [0, 40] [] (62 * cnB (fun k => (zE s k).isSome) (k + 1) + alK c' L) g S g c' ∧ isAL c' L ((drL (zR s) (zE s) n (k + 1)).map fun k => some (g.2 9 k)) ∧ alK c' L ≤ 10 + 2 * (drL (zR s) (zE s) n (k + 1)).length) ∧ n_X1_drop_b71 (n_X1_drop_b10 m) c1 (some (g.2 1 0)) (some (g.2 2 n)) (some L) (nI k) = n_X1_drop_b10 m c' (some (g.2 1 0)) (some (g.2 2 n)) (some L) (nI (k + 1)) := by
      intro c1 q xq hq hd
      have hat : c1.1 L = c.1 L := xq.at1 hL (by decide)
      have er : drL (zR s) (zE s) n (k + 1) = drL (zR s) (zE s) n k := by simp only [drL]; rw [if_neg (by rw [hd]; decide)]
      refine ⟨c1, ⟨KX_n (KX_tr hx (KX_up xq (by decide) (by decide) (Nat.le_refl _))) ?_, by rw [er]; exact hal.fr hat, by rw [er, alK_fr hat]; exact hak⟩, by simp only [n_X1_drop_b71, nI_1]⟩
      rw [alK_fr hat]
      rcases hq with rfl | ⟨z1, z2⟩
      · simp only [cnB]; omega
      · simp only [cnB]; rw [if_pos z1]; omega
    simp only [n_X1_drop_b10, e60, if_false, kn_2 h1, ob_s, en_get h4 (show k < 60 by omega), nd_0 h2 hn, nI_eqE (show k < 2 ^ 31 by omega) (show n < 2 ^ 31 by omega), h1.cl, gd_t]
    rcases Bool.eq_false_or_eq_true (zE s k).isSome with b | b
    · obtain ⟨ev, hev⟩ := Option.isSome_iff_exists.mp b
      have hkm := (hE k ev hev).1
      simp only [b, if_true, reduceCtorEq, if_false]
      by_cases ekn : k = n
      · rw [if_pos ekn]
        exact add c 0 (KX_rf (by decide)) (by omega) b (by unfold drS; rw [b, ekn]; simp)
      · rw [if_neg ekn]
        obtain ⟨c1, r1, r2⟩ := k_isRoot h1 h2 h3 h8 hT.toS hn
        rw [r1, bn_s]
        simp only [b2i_0]
        rcases Bool.eq_false_or_eq_true (isR (zR s) n) with br | br
        · rw [if_neg (by rw [br]; decide)]
          exact skip c1 1 r2 (Or.inr ⟨b, by omega⟩) (by simp [drS, br, beq_false_of_ne ekn])
        · rw [if_pos br]
          have n1 := h1.kx r2
          have f1 := h2.kx r2
          have e1 := h4.kx r2
          obtain ⟨c2, v1, v2⟩ := k_isKnownBelow n1 f1 (h3.kx r2) e1 (h8.kx r2 (FR_sm h8.2.2.2 r2.le)) hT.toS hE h6 hkm hn
          simp only [kn_2 n1, ob_s, en_get e1 (show k < 60 by omega), b, if_true, en_0 e1 hev, n1.cl, gd_t, v1, bn_s, b2i_0]
          rcases Bool.eq_false_or_eq_true (knb (zR s) (zE s) k n) with bk | bk
          · rw [if_neg (by rw [bk]; decide)]
            exact add c2 62 (KX_tr r2 v2) (by omega) b (by simp [drS, b, br, bk])
          · rw [if_pos bk]
            exact skip c2 62 (KX_tr r2 v2) (Or.inr ⟨b, by omega⟩) (by simp [drS, bk, beq_false_of_ne ekn])
    · simp only [b, Bool.false_eq_true, if_false, if_true]
      exact skip c 0 (KX_rf (by decide)) (Or.inl rfl) (by simp [drS, b])
  · intro m c hc
    refine ⟨c, hc, ?_⟩
    simp only [n_X1_drop_b10, li_60, Int32.le_refl, if_true, hc.2.1.cl, gd_t]
end
