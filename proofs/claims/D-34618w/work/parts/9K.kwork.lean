/-! the keeper's call work -/
def wkT (S : St) (x0 : Option Nat) (x3 : Int32) : Option ((Int32 ⊕ String) × St) :=
  (gI S x0 0 9).bind fun v3 =>
  (gI S x0 0 7).bind fun v4 =>
  if v4 = 0 then
    n_X1_work_b102 S x0 x3 (0 : Int32) v3 x0
  else
    n_X1_work_b102 S x0 x3 x3 v3 x0
/-- marks are small -/
def MkS (f : Fl) : Prop := ∀ k, k < fMd f → ∀ m ∈ fMk f k, Sm m
section
variable {S S' S1 S0 : St} {g g' : GA} {T U : List Nat} {n m c x y t i j d : Nat} {f f' : Fl} {rs : List RtV} {en : En} {o : Nat → Option Nat} {ac : List AcV} {sg : List SgV} {w w' : Int64} {nm : Nm} {s : Sg} {rk : Nat → Nat} {k p : Nat} {e : EnV} {q l : List Nat} {r : RtV} {D L id : Nat} {left : Int32}
theorem WB_lok (h6 : fMd f ≤ 60) (hn : n < fMd f) (h : WB w) : WB (lokW f en w n) := by
  unfold lokW
  split
  · exact h
  · intro k h1 h2
    rw [tb_set _ (by omega) h2, h k h1 h2]
    simp; omega
theorem zW_hear (s : Sg) (r : RtV) : zW (hear s r) = zW s := by
  unfold hear
  split
  · rfl
  · split <;> rfl
theorem zW_crwl (s : Sg) (r : RtV) : zW (crwl s r) = zW s := by
  unfold crwl
  split
  · unfold cwF
    split <;> rfl
  · rfl
theorem WB_perf {a : AcV} (h6 : fMd (zF s) ≤ 60) (hn : a.1 < fMd (zF s)) (h : WB (zW s)) : WB (zW (perf s a)) := by
  unfold perf
  split
  · exact h
  · split
    · exact h
    · split
      · exact h
      · exact WB_lok h6 hn h
theorem WB_doN (hI : IW s rk) (h : WB (zW s)) (left : Int32) : WB (zW (doN s left).2) := by
  unfold doN
  split
  · split
    · exact h
    · rw [zW_hear]; exact h
  · split
    · next a ha =>
      split
      · exact h
      · exact WB_perf (s := wA s _) hI.2.1 (hI.2.2.2.2.1.2 a (List.mem_of_getElem? ha)) h
    · split
      · split
        · exact h
        · rw [zW_crwl]; exact h
      · exact h
theorem ids_perf (s : Sg) (a : AcV) : (zS (perf s a)).map (·.1) = (zS s).map (·.1) := by
  unfold perf
  split
  · show (kilS (zS s) _).map (·.1) = _
    simp [kilS, Function.comp_def]
  · split
    · rfl
    · split <;> rfl
theorem ids_doN (s : Sg) (left : Int32) : (zS (doN s left).2).map (·.1) = (zS s).map (·.1) := by
  unfold doN
  split
  · split
    · rfl
    · rw [hear_sg]
  · split
    · split
      · rfl
      · rw [ids_perf]
    · split
      · split
        · rfl
        · rw [crwl_sg]
      · rfl
theorem k_wrk {K : Nat} (h5 : left.toInt ≤ 500) : ∀ c m (s : Sg) (g : GA) (S : St) (dn : Nat), dn ≤ 500 → (dn = 0 ∨ (dn : Int) ≤ left.toInt) → 500 - dn < c → c ≤ m → RK g s S → IW s rk → LU (zS s) → WB (zW s) → MkS (zF s) → N40 g → g.2 1 0 = K → ∃ S' g' dn' co, n_X1_work_b66 m S (some K) left (nI dn) = wkT S' (some K) (nI dn') ∧ (wrkL left c s (nI dn)).1 = nI dn' ∧ dn ≤ dn' ∧ dn' ≤ 500 ∧ KX TT UU co g S g' S' ∧ co + 2 * (zA s).length + phi (wrkL left c s (nI dn)).2 ≤ (dn' - dn) * (fMd (zF s) + 26) + 3 + 2 * (zA (wrkL left c s (nI dn)).2).length + phi s ∧ RK g' (wrkL left c s (nI dn)).2 S' ∧ N40 g' ∧ IW (wrkL left c s (nI dn)).2 rk ∧ LU (zS (wrkL left c s (nI dn)).2) ∧ WB (zW (wrkL left c s (nI dn)).2) ∧ zF (wrkL left c s (nI dn)).2 = zF s ∧ (zS (wrkL left c s (nI dn)).2).map (·.1) = (zS s).map (·.1) := by
  intro c
  induction c with
  | zero => intro m s g S dn h1 _ h2; omega
  | succ c ih =>
    intro m s g S dn h1 h0 h2 hm hR hI hU hWB hsm h40 hK
    obtain ⟨m, rfl⟩ : ∃ m', m = m' + 1 := ⟨m - 1, by omega⟩
    obtain ⟨S1, g1, D, co, a1, a2, a3, a4, a5, a6, a7⟩ := k_doN hR hI hU hsm h40 (left - nI dn)
    rw [hK] at a1
    have hcl : grc S (some K) 0 = true := by rw [← hK]; exact hR.1.cl
    have hI2 := IW_doN hI (left - nI dn)
    have hU2 := LU_doN hU (left - nI dn)
    have hW2 := WB_doN hI hWB (left - nI dn)
    have hF2 := zF_doN s (left - nI dn)
    have hid2 := ids_doN s (left - nI dn)
    have hph := phi_doN hI (left - nI dn)
    have hbd := doN_bd s (left - nI dn)
    obtain ⟨t, et⟩ : ∃ t, t = doN s (left - nI dn) := ⟨_, rfl⟩
    rw [← et] at a2 a5 a6 hI2 hU2 hW2 hF2 hid2 hph hbd
    have hdn : (nI dn).toInt = dn := nI_toInt (by omega)
    have hK1 : g1.2 1 0 = K := by rw [← hK, a4.ad (by decide)]
    simp only [n_X1_work_b66, wrkL, ← et, hcl, gd_t, a1, bn_s]
    rw [a2]
    by_cases hD : D = 0
    · subst hD
      have hn : ¬ (0 : Int32) < nI 0 := by rw [nI_0]; decide
      rw [if_neg hn, if_neg hn]
      refine ⟨S1, g1, dn, co, ?_, rfl, Nat.le_refl _, h1, a4, ?_, a6, a7, hI2, hU2, hW2, hF2, hid2⟩
      · simp only [wkT, nI_add, Nat.add_zero]
      · rw [if_pos rfl] at a5
        show co + 2 * (zA s).length + phi t.2 ≤ (dn - dn) * (fMd (zF s) + 26) + 3 + 2 * (zA t.2).length + phi s
        omega
    · have hp : (0 : Int32) < nI D := by rw [li_0, nI_ltE (by decide) (by omega)]; omega
      rw [if_pos hp, if_pos hp]
      rw [a2] at hbd
      have hb2 := Int32.le_iff_toInt_le.mp (hbd hp)
      rw [nI_toInt (show D < 2 ^ 31 by omega)] at hb2
      have hld : (left - nI dn).toInt = left.toInt - dn := by
        rcases h0 with rfl | h0
        · rw [nI_0]; simp
        · rw [Int32.toInt_sub, hdn, Int.bmod_eq_of_le (by omega) (by omega)]
      rw [hld] at hb2
      rw [if_neg hD] at a5
      obtain ⟨S2, g2, dn', co2, b1, b2, b3, b4, b5, b6, b7, b8, b9, b10, b11, b12, b13⟩ := ih m t.2 g1 S1 (dn + D) (by omega) (Or.inr (by omega)) (by omega) (by omega) a6 hI2 hU2 hW2 (by rw [hF2]; exact hsm) a7 hK1
      rw [← nI_add] at b1 b2 b6 b7 b9 b10 b11 b12 b13
      refine ⟨S2, g2, dn', co + co2, b1, b2, by omega, b4, KX_tr a4 b5, ?_, b7, b8, b9, b10, b11, b12.trans hF2, b13.trans hid2⟩
      rw [hF2] at b6
      have hmul : (dn' - dn) * (fMd (zF s) + 26) = (dn' - (dn + D)) * (fMd (zF s) + 26) + D * (fMd (zF s) + 26) := by
        rw [← Nat.add_mul]; congr 1; omega
      omega
/-- what was put off is not, any more -/
theorem k_off {K : Nat} (h : RK g s S) (hB : AB (zF s) (zA s)) (h6 : fMd (zF s) ≤ 60) (hK : g.2 1 0 = K) (x3 : Int32) : ∃ S', (bn (h_J3_iterator S (some (g.2 23 0))) fun v4 S3 => n_X1_work_b115 FU S3 (some K) x3 v4) = (bn (n_X1_store S' (some K)) fun _ S3 => rtI Sum.inl .int x3 S3) ∧ KX [0, 11] [] 1 g S g S' ∧ RK g (wA s (offA (zA s))) S' := by
  obtain ⟨h1, h2, h3, h4, h5, h6', h7, h8⟩ := h
  have F := h8.2.2.2
  have hl := hB.len h6
  obtain ⟨S1, i1, i2, i3⟩ := ac_it h5 F hl
  obtain ⟨it, eit⟩ : ∃ it, it = S.2.1 := ⟨_, rfl⟩
  rw [← eit] at i1 i2
  have it0 : (g.1 it).1 = 0 := F it (by omega)
  obtain ⟨m1, m2, m3⟩ := h5
  have neo : ∀ {z u v}, g.1 z = (u, v) → u ≠ 0 → it ≠ z := fun {z u v} hz hu e => by
    rw [← e] at hz; rw [hz] at it0; exact hu it0
  have key := lp_st (fun m _ (c : St) => n_X1_work_b115 m c (some K) x3 (some it)) (fun c => bn (n_X1_store c (some K)) fun _ S3 => rtI Sum.inl .int x3 S3) (fun j c => KX [0, 11] [] 0 g S1 g c ∧ IT c it (g.2 23 0) ((zA s).map fun a => some (g.2 11 a.1)) j ∧ ∀ (i : Nat) (z : AcV), (zA s)[i]? = some z → c.1 (g.2 11 z.1) = some (acC g (if i < j then (z.1, z.2.1, false) else z))) (fun c => KX [0, 11] [] 0 g S1 g c ∧ ∀ (i : Nat) (z : AcV), (zA s)[i]? = some z → c.1 (g.2 11 z.1) = some (acC g (z.1, z.2.1, false))) (zA s).length ?_ ?_ FU 0 S1 (Nat.zero_le _) (by simp only [FU]; omega) ⟨KX_rf (by decide), i2, fun i z hz => ?_⟩
  · obtain ⟨c, ⟨c1, c2⟩, e⟩ := key
    have xx : KX [0, 11] [] 1 g S g c := KX_n (KX_tr (KX_up i3 (by decide) (by decide) (Nat.le_refl _)) c1) (by omega)
    refine ⟨c, by rw [i1, bn_s]; exact e, xx, h1.kx xx, h2.kx xx, h3.kx xx, h4.kx xx, ?_, h6'.kx xx, h7.kx xx, h8.kx xx (FR_sm F xx.le)⟩
    exact RKa_map ⟨m1, m2, m3⟩ (fun a => (a.1, a.2.1, false)) (fun _ => rfl) (xx.at1 m2 (by decide)) (fun z hz => by
      obtain ⟨i, hi⟩ := List.mem_iff_getElem?.mp hz
      exact c2 i z hi)
  · intro m j c hj ⟨y1, y2, y3⟩
    obtain ⟨z, hz⟩ : ∃ z, (zA s)[j]? = some z := ⟨(zA s)[j], List.getElem?_eq_getElem hj⟩
    have hzm := List.mem_of_getElem? hz
    have o11 := (m3 z hzm).2
    obtain ⟨c1, d1, d2, d3⟩ := it_next y2 (x := some (g.2 11 z.1)) (by rw [List.getElem?_map, hz]; rfl)
    have cz := y3 j z hz
    rw [if_neg (by omega)] at cz
    have cz1 : c1.1 (g.2 11 z.1) = some (acC g z) := by rw [d3.1 _ (Ne.symm (neo o11 (by decide)))]; exact cz
    obtain ⟨c2, e2⟩ : ∃ c2, c2 = sup c1 (g.2 11 z.1) (acC g (z.1, z.2.1, false)) := ⟨_, rfl⟩
    have p2 : pI .boolean c1 (some (g.2 11 z.1)) 3 2 0 = some c2 := by
      simp only [pI, show gfit .boolean 0 = true by decide, if_true, pF_e (show c1.1 (g.2 11 z.1) = some (cO 3 [vR (some (g.2 2 z.1)), vI (b2i z.2.1), vI (b2i z.2.2)]) from cz1)]
      rw [if_pos (by simp), e2]
      rfl
    have w1 : KX [0, 11] [] 0 g c g c1 := KX_ch d3 (by decide) (by rw [it0]; decide)
    have w2 : KX [0, 11] [] 0 g c1 g c2 := by rw [e2]; exact KX_ch1 (Ch_sup _) o11
    have n23 : g.2 23 0 ≠ g.2 11 z.1 := fun e => by rw [e, o11] at m2; cases m2
    refine ⟨c2, ⟨KX_tr (KX_tr y1 w1) w2, d2.it.fr (by rw [e2, sup_ne _ _ (neo o11 (by decide))]) (by rw [e2, sup_ne _ _ n23]), fun i z' hz' => ?_⟩, ?_⟩
    · by_cases e : i = j
      · subst e
        rw [hz] at hz'
        cases hz'
        rw [if_pos (by omega), e2]; exact sup_at _ _ _
      · have o' := (m3 z' (List.mem_of_getElem? hz')).2
        have ne : g.2 11 z'.1 ≠ g.2 11 z.1 := fun e2 => by
          rw [e2, o11] at o'
          exact e (hB.inj hz' hz (congrArg (·.2) o').symm)
        rw [e2, sup_ne _ _ ne, d3.1 _ (Ne.symm (neo o' (by decide))), y3 i z' hz']
        by_cases e3 : i < j
        · rw [if_pos e3, if_pos (by omega)]
        · rw [if_neg e3, if_neg (by omega)]
    · simp only [n_X1_work_b115, y2.cl, gd_t, y2.has_lt hz, bn_s, i10, if_false, d1, gcst_g (grc_o cz1), p2, ob_s]
  · intro m c ⟨y1, y2, y3⟩
    have clK : grc c (some K) 0 = true := by rw [← hK]; exact (h1.kx (KX_tr (KX_up i3 (by decide) (by decide) (Nat.le_refl _) : KX [0, 11] [] 1 g S g S1) y1)).cl
    refine ⟨c, ⟨y1, fun i z hz => ?_⟩, ?_⟩
    · have := y3 i z hz
      rw [if_pos (List.getElem?_eq_some_iff.mp hz).1] at this
      exact this
    · simp only [n_X1_work_b115, y2.cl, gd_t, y2.has_end, bn_s, if_true, clK]
  · rw [if_neg (by omega), i3.at1 (m3 z (List.mem_of_getElem? hz)).2 (by decide)]
    exact (m3 z (List.mem_of_getElem? hz)).1
end
