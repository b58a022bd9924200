/-! the keeper's call remove -/
section
variable {S S' S1 : St} {g g' : GA} {T U : List Nat} {n m a b c x y t i : Nat} {f f' : Fl} {rs : List RtV} {en : En} {o : Nat → Option Nat} {ac : List AcV} {sg : List SgV} {w : Int64} {nm : Nm} {s : Sg} {rk : Nat → Nat} {k p : Nat} {e : EnV}
/-- fewer roots -/
theorem RKr_sub (h : RKr g rs S) {rs' : List RtV} (hs : ∀ r ∈ rs', r ∈ rs) (hL : isLL S' (g.2 21 0) (rs'.map fun r => some (g.2 4 r.1))) (ho : ∀ a, (g.1 a).1 ∈ [4, 5, 6, 7, 8] → S'.1 a = S.1 a) (hcs : S'.2.2.2 = S.2.2.2) : RKr g rs' S' :=
  ⟨hL, h.2.1, fun r hr => (h.2.2 r (hs r hr)).fr (fun a ha _ => ho a (by simp only [List.mem_cons, List.not_mem_nil, or_false] at ha ⊢; omega)) (fun a ha => ho a (by rw [ha]; decide)) (fun _ _ => rfl) (fun _ _ => rfl) rfl hcs⟩
/-- files some of whose nodes from here on are gone -/
def goF (f : Fl) (n k : Nat) : Fl := fwGo f (fun j => fGo f j || (decide (k ≤ j) && (decide (j < fMd f) && hasA f n j)))
theorem goF_0 (f : Fl) (n : Nat) : goF f n 0 = rmvF f n := by simp [goF, rmvF]
theorem goF_e (f : Fl) (n : Nat) : goF f n (fMd f) = f := by
  have : (fun j => fGo f j || (decide (fMd f ≤ j) && (decide (j < fMd f) && hasA f n j))) = fGo f := by
    funext j
    by_cases h : fMd f ≤ j
    · have : ¬ j < fMd f := by omega
      simp [h, this]
    · simp [h]
  unfold goF
  rw [this]
theorem k_remove (h : RK g s S) (A : AC (zF s) rk) (h6 : fMd (zF s) ≤ 60) (hT : RT (zF s) (zR s)) (hN : ((zR s).map (·.1)).Nodup) (h0 : ∀ k, k < fMd (zF s) → (fPa (zF s) k = none ↔ k = 0)) (hB : AB (zF s) (zA s)) (hE : ES (zF s) (zE s)) (x : Int32) : KO [IOE] 190 g S (n_X1_remove S (some (g.2 1 0)) x) (opRemove s x) := by
  have hh := h
  obtain ⟨h1, h2, h3, h4, h5, h6', h7, h8⟩ := h
  have bad1 : ∀ v, KO [IOE] 190 g S (n_X1_remove_b22 S (some (g.2 1 0)) v 0) (1, 0, s) := fun v => by
    simp only [n_X1_remove_b22, k_need0, tbn_x]
    exact KO_x (j := 0) rfl hh 0 (by decide) (by decide)
  simp only [n_X1_remove, n_X1_remove_b21, h1.cl, gd_t, k_nodeAt h1 h2 h6, bn_s, opRemove]
  cases hfi : ndA (zF s) x with
  | none => simp only [Option.map_none, if_true]; exact bad1 _
  | some n =>
    have hn := ndA_bd h6 hfi
    simp only [Option.map_some, reduceCtorEq, if_false, nd_2 h2 hn, ob_s, Option.map_eq_none_iff, h0 n hn]
    by_cases n0 : n = 0
    · rw [if_pos n0, if_pos n0]; exact bad1 _
    · rw [if_neg n0, if_neg n0]
      obtain ⟨S1, a1, a2⟩ := k_above h1 h2 h3 h8 A hT.toS hn
      have H1 := hh.kx0 a2
      obtain ⟨S2, g2, t1, t2, t3, t4, t5⟩ := k_tell H1.2.2.1 H1.2.2.2.2.2.2.2.2.2.2 hT hN (o := abv (zF s) (zR s) n) (fun a ha => abv_in ha) 2 n
      obtain ⟨rs0, ers⟩ : ∃ rs0, rs0 = telS (zR s) (abv (zF s) (zR s) n) 2 n := ⟨_, rfl⟩
      rw [← ers] at t5
      have H2 : RK g2 (wR s rs0) S2 := ⟨H1.1.kx t2, H1.2.1.kx t2, t5, H1.2.2.2.1.kx t2, H1.2.2.2.2.1.kx t2, H1.2.2.2.2.2.1.kx t2, H1.2.2.2.2.2.2.1.kx t2, H1.2.2.2.2.2.2.2.kx t2 t4⟩
      have hmap : rs0.map (·.1) = (zR s).map (·.1) := by
        rw [ers]
        cases abv (zF s) (zR s) n with
        | none => rfl
        | some u => exact updR_map u _ (fun r => telR_1 _ _ r)
      have x2 : KX TT UU 3 g S g2 S2 := KX_n (KX_tr (KX_all a2 (Nat.le_refl _)) (KX_all t2 (Nat.le_refl _))) (by decide)
      have hz : fMd (zF s) < 2 ^ 31 := by omega
      have f2 : RKf g2 (zF s) S2 := H2.2.1
      have n2 : RKn g2 (zN s) S2 := H2.1
      -- how many
      obtain ⟨C, eC⟩ : ∃ C, C = nI (cnB (fun k => !fGo (zF s) k && hasA (zF s) n k) (fMd (zF s))) := ⟨_, rfl⟩
      have cnt : n_X1_remove_b43 FU S2 (some (g2.2 1 0)) (some (g2.2 2 n)) 0 0 = n_X1_remove_b118 FU S2 (some (g2.2 1 0)) (some (g2.2 2 n)) C (nI (fMd (zF s)) - 1) := by
        have key := lp_u0 (fun m k => n_X1_remove_b43 m S2 (some (g2.2 1 0)) (some (g2.2 2 n)) (nI (cnB (fun k => !fGo (zF s) k && hasA (zF s) n k) k)) (nI k)) (fMd (zF s)) (n_X1_remove_b118 FU S2 (some (g2.2 1 0)) (some (g2.2 2 n)) C (nI (fMd (zF s)) - 1)) ?_ ?_ (m := FU) (by simp only [FU]; omega)
        · simp only [cnB, nI_0] at key
          exact key
        · intro m k hk
          simp only [n_X1_remove_b43, n_X1_remove_b96, n_X1_remove_b99, kn_0 n2, ob_s, f2.1.cl, gd_t, ndl_size f2, bn_s, nI_leE hz (show k < 2 ^ 31 by omega), ndl_get f2 h6 hk, gcst_g (f2.cl hk), nd_8 f2 hk, b2i_0, nd_some f2 hk hn, f2.cl hk, k_isBelow f2 A hk hn, nI_1, cnB]
          rw [if_neg (by omega)]
          rcases Bool.eq_false_or_eq_true (fGo (zF s) k) with b1 | b1
          · simp [b1]
          · by_cases e1 : k = n
            · rw [e1] at b1; simp [b1, e1, hasA]
            · rcases Bool.eq_false_or_eq_true (blw (zF s) k n) with b2 | b2 <;> simp [b1, e1, b2, hasA, beq_false_of_ne e1]
        · intro m
          simp only [n_X1_remove_b43, kn_0 n2, ob_s, f2.1.cl, gd_t, ndl_size f2, bn_s, nI_leE hz hz, Nat.le_refl, if_true, ← eC]
      -- they are gone
      have marks := lp_sd (fun m k (S : St) => n_X1_remove_b118 m S (some (g2.2 1 0)) (some (g2.2 2 n)) C (nI k - 1)) (fun S => (gR S (some (g2.2 1 0)) 0 1).bind fun v1 => gd (grc S v1 9) <| bn (h_J3_iterator S v1) fun v3 S2 => n_X1_remove_b192 FU S2 (some (g2.2 1 0)) C 0 v3) (fun k S => k ≤ fMd (zF s) ∧ RK g2 (wF (wR s rs0) (goF (zF s) n k)) S ∧ KX [0, 2] [] 0 g2 S2 g2 S) (fun S => RK g2 (wF (wR s rs0) (rmvF (zF s) n)) S ∧ KX [0, 2] [] 0 g2 S2 g2 S) ?_ ?_ FU (fMd (zF s)) S2 (by simp only [FU]; omega) ⟨Nat.le_refl _, by rw [goF_e]; exact H2, KX_rf (by decide)⟩
      · obtain ⟨S3, ⟨H3, x3⟩, e3⟩ := marks
        -- roots go
        obtain ⟨kp, ekp⟩ : ∃ kp : RtV → Bool, kp = fun r => !fGo (rmvF (zF s) n) r.1 := ⟨_, rfl⟩
        have hr3 : rs0.length ≤ 3 := by
          have := congrArg List.length hmap
          simp only [List.length_map] at this
          have := hT.1
          omega
        have rin : ∀ r ∈ rs0, r.1 < fMd (zF s) := fun r hr => by
          have : r.1 ∈ rs0.map (·.1) := List.mem_map.mpr ⟨r, hr, rfl⟩
          rw [hmap] at this
          obtain ⟨r', hr', er'⟩ := List.mem_map.mp this
          rw [← er']; exact (hT.2 r' hr').1
        obtain ⟨S4, i1, i2, i3⟩ := rt_it H3.2.2.1 H3.2.2.2.2.2.2.2.2.2.2 hr3
        obtain ⟨it, eit⟩ : ∃ it, it = S3.2.1 := ⟨_, rfl⟩
        rw [← eit] at i1 i2
        have how : (g2.1 it).1 = 0 := H3.2.2.2.2.2.2.2.2.2.2 _ (by omega)
        have H4 := H3.kx0 i3
        have h21 := H3.2.2.1.2.1
        have g2lt : it ≠ g2.2 21 0 := fun e => by rw [e, h21] at how; cases how
        have loop := lp_st (fun m j (c : St) => n_X1_remove_b192 m c (some (g2.2 1 0)) C (b2i ((rs0.take j).any fun r => !kp r)) (some it)) (fun c => if (rs0.any fun r => !kp r) = true then (gd (grc c (some (g2.2 1 0)) 0) <| bn (n_X1_lookAtAll c (some (g2.2 1 0))) fun _ S3 => rtI Sum.inl (Jvm.ClassFile.FieldType.int) C S3) else some (Sum.inl C, c)) (fun j c => KX [0, 21] [] 0 g2 S4 g2 c ∧ IT c it (g2.2 21 0) (((rs0.take j).filter kp ++ rs0.drop j).map fun r => some (g2.2 4 r.1)) ((rs0.take j).filter kp).length) (fun c => KX [0, 21] [] 0 g2 S4 g2 c ∧ isLL c (g2.2 21 0) ((rs0.filter kp).map fun r => some (g2.2 4 r.1))) rs0.length ?_ ?_ FU 0 S4 (Nat.zero_le _) (by simp only [FU]; omega) ⟨KX_rf (by decide), by simpa using i2⟩
        · obtain ⟨S5, ⟨x5, l5⟩, e5⟩ := loop
          simp only [List.take_zero, List.any_nil, b2i_f] at e5
          have r5 : RKr g2 (rs0.filter kp) S5 := RKr_sub H4.2.2.1 (fun r hr => (List.mem_filter.mp hr).1) l5 (fun a ha => x5.at (fun z => by simp only [List.mem_cons, List.not_mem_nil, or_false] at ha z; omega)) x5.cs
          have H5 : RK g2 (wR (wF s (rmvF (zF s) n)) (rs0.filter kp)) S5 := ⟨H4.1.kx x5, H4.2.1.kx x5, r5, H4.2.2.2.1.kx x5, H4.2.2.2.2.1.kx x5, H4.2.2.2.2.2.1.kx x5, H4.2.2.2.2.2.2.1.kx x5, H4.2.2.2.2.2.2.2.kx x5 (FR_sm H4.2.2.2.2.2.2.2.2.2.2 x5.le)⟩
          have x35 : KX TT UU 4 g S g2 S5 := KX_n (KX_tr (KX_tr (KX_tr x2 (KX_all x3 (Nat.le_refl _))) (KX_all i3 (Nat.le_refl _))) (KX_all x5 (Nat.le_refl _))) (by decide)
          have k31 := kn_1 H3.1
          have start : n_X1_remove_b22 S (some (g.2 1 0)) (some (g.2 2 n)) 1 = if (rs0.any fun r => !kp r) = true then (gd (grc S5 (some (g2.2 1 0)) 0) <| bn (n_X1_lookAtAll S5 (some (g2.2 1 0))) fun _ S3 => rtI Sum.inl (Jvm.ClassFile.FieldType.int) C S3) else some (Sum.inl C, S5) := by
            rw [t3] at cnt e3 e5 k31 ⊢
            simp only [n_X1_remove_b22, k_need1, tbn_s, h1.cl, gd_t, a1, bn_s, H1.1.cl]
            rw [show S1.2.2.2 3 = S1.2.2.2 (2 + 1) from rfl, t1, bn_s, cnt, e3]
            have c31 := H3.2.2.1.1.cl
            rw [t3] at c31 i1
            simp only [k31, ob_s, c31, gd_t, i1, bn_s]
            exact e5
          rw [start]
          have eany : (rs0.any fun r => !kp r) = (zR s).any fun r => fGo (rmvF (zF s) n) r.1 := by
            have q1 : (rs0.any fun r => !kp r) = (rs0.map (·.1)).any fun k => fGo (rmvF (zF s) n) k := by rw [List.any_map, ekp]; simp [Function.comp_def]
            rw [q1, hmap, List.any_map]; rfl
          have efil : (telS (zR s) (abv (zF s) (zR s) n) 2 n).filter (fun r => !fGo (rmvF (zF s) n) r.1) = rs0.filter kp := by rw [← ers, ekp]
          rw [efil, eany, ← eC]
          by_cases ca : ((zR s).any fun r => fGo (rmvF (zF s) n) r.1) = true
          · rw [if_pos ca, if_pos ca]
            obtain ⟨S6, g6, l1, l2, l3, l4⟩ := k_lookAtAll H5.1 H5.2.1 H5.2.2.2.1 H5.2.2.2.2.1 H5.2.2.2.2.2.2.2.2.2.2 hB hE h6
            simp only [H5.1.cl, gd_t, l1, bn_s, rt_i]
            have hc60 := cnB_le (fun k => (zE s k).isSome) 60
            have hl60 := (lkA_AB' hB hE 60).len h6
            refine KO_s (KX_n (KX_tr x35 (KX_all l2 (Nat.le_refl _))) ?_) ⟨H5.1.kx l2, H5.2.1.kx l2, H5.2.2.1.kx l2, H5.2.2.2.1.kx l2, l3, H5.2.2.2.2.2.1.kx l2, H5.2.2.2.2.2.2.1.kx l2, H5.2.2.2.2.2.2.2.kx l2 l4⟩
            show 4 + (cnB (fun k => (zE s k).isSome) 60 + 2 * ((lkA (zE s) (zA s) 60).length - (zA s).length)) ≤ 190
            omega
          · rw [if_neg ca, if_neg ca]
            exact KO_s (KX_n x35 (by decide)) H5
        · intro m j c hj ⟨xc, it5⟩
          have hrj : rs0[j]? = some rs0[j] := List.getElem?_eq_getElem hj
          have hm := List.mem_of_getElem? hrj
          obtain ⟨r, er⟩ : ∃ r, r = rs0[j] := ⟨_, rfl⟩
          rw [← er] at hrj hm
          have ht : rs0.take (j + 1) = rs0.take j ++ [r] := by rw [er]; exact List.take_succ_eq_append_getElem hj
          have hdrop : rs0.drop j = r :: rs0.drop (j + 1) := by rw [er]; exact List.drop_eq_getElem_cons hj
          have hat : ((rs0.take j).filter kp ++ rs0.drop j)[((rs0.take j).filter kp).length]? = some r := by
            rw [List.getElem?_append_right (Nat.le_refl _), Nat.sub_self, hdrop]; rfl
          obtain ⟨c2, d1, d2, d3⟩ := it_next it5 (x := some (g2.2 4 r.1)) (by rw [List.getElem?_map, hat]; rfl)
          have xc2 : KX [0, 21] [] 0 g2 S4 g2 c2 := KX_tr xc (KX_ch d3 (by decide) (by rw [how]; decide))
          have f4 := H4.2.1.kx xc2
          have hcell := (H4.2.2.1.2.2 r hm).1
          have how4 := (H4.2.2.1.2.2 r hm).2.2.2.2.1
          have c2c : c2.1 (g2.2 4 r.1) = some (rtC g2 r) := (xc2.at1 how4 (by decide)).trans hcell
          have q0 : gR c2 (some (g2.2 4 r.1)) 4 0 = some (some (g2.2 2 r.1)) := by rw [gR_e c2c]; rfl
          have q8 := nd_8 f4 (k := r.1) (rin r hm)
          have q8' : gI c2 (some (g2.2 2 r.1)) 1 8 = some (b2i (!kp r)) := by
            rw [q8, ekp]; simp only [Bool.not_not]
          have hhas := IT.has_lt it5 hat
          simp only [n_X1_remove_b192, it5.cl, gd_t, hhas, bn_s, i10, if_false, d1, gcst_g (grc_o c2c), q0, ob_s, q8', b2i_0]
          rcases Bool.eq_false_or_eq_true (kp r) with b1 | b1
          · refine ⟨c2, ⟨xc2, ?_⟩, ?_⟩
            · have e1 : (rs0.take (j + 1)).filter kp = (rs0.take j).filter kp ++ [r] := by rw [ht, List.filter_append]; simp [b1]
              rw [e1, List.append_assoc, List.singleton_append, ← hdrop, List.length_append]
              exact d2.it
            · have e2 : ((rs0.take (j + 1)).any fun r => !kp r) = (rs0.take j).any fun r => !kp r := by rw [ht, List.any_append]; simp [b1]
              rw [e2]; simp [b1]
          · obtain ⟨c3, w1, w2, w3, w4⟩ := it_remove d2
            have xc3 : KX [0, 21] [] 0 g2 S4 g2 c3 := by
              refine KX_n (KX_tr xc2 (n := 0) (m := 0) ⟨by decide, fun a ha => w3 a (fun e => ha (by rw [e, how]; decide)) (fun e => ha (by rw [e, h21]; decide)), fun _ _ => rfl, fun _ _ => rfl, by rw [w4]; exact Nat.le_refl _, by rw [w4]; exact Nat.le_refl _, by rw [w4]; exact Nat.le_refl _, by rw [w4]⟩) (Nat.le_refl _)
            refine ⟨c3, ⟨xc3, ?_⟩, ?_⟩
            · have e1 : (rs0.take (j + 1)).filter kp = (rs0.take j).filter kp := by rw [ht, List.filter_append]; simp [b1]
              rw [e1]
              have e3 : (((rs0.take j).filter kp ++ rs0.drop j).map fun r => some (g2.2 4 r.1)).eraseIdx ((rs0.take j).filter kp).length = ((rs0.take j).filter kp ++ rs0.drop (j + 1)).map fun r => some (g2.2 4 r.1) := by
                rw [← map_erI, hdrop, List.eraseIdx_append_of_length_le (Nat.le_refl _), Nat.sub_self]; rfl
              rw [e3] at w2
              exact w2
            · have e2 : ((rs0.take (j + 1)).any fun r => !kp r) = true := by rw [ht, List.any_append]; simp [b1]
              rw [e2]
              simp [b1, d2.it.cl, gd_t, w1, bn_s, b2i]
        · intro m c ⟨xc, it5⟩
          rw [List.take_length, List.drop_length, List.append_nil] at it5
          refine ⟨c, ⟨xc, ?_⟩, ?_⟩
          · obtain ⟨md, lr, ns, y1, y2, y3, -⟩ := it5
            exact ⟨md, ns, y2, y3⟩
          · have hend := IT.has_end it5
            rw [List.take_length]
            simp only [n_X1_remove_b192, it5.cl, gd_t, hend, bn_s, if_true, b2i_0, rt_i]
            rcases Bool.eq_false_or_eq_true (rs0.any fun r => !kp r) with b1 | b1 <;> simp [b1]
      · intro m k S ⟨hk, H, xk⟩
        have hk1 : k < fMd (zF s) := by omega
        have HH : RKf g2 (goF (zF s) n (k + 1)) S := H.2.1
        have hkg : k < fMd (goF (zF s) n (k + 1)) := hk1
        have hng : n < fMd (goF (zF s) n (k + 1)) := hn
        have Ag : AC (goF (zF s) n (k + 1)) rk := A
        have hblw : blw (goF (zF s) n (k + 1)) k n = blw (zF s) k n := rfl
        have hgok : fGo (goF (zF s) n (k + 1)) k = fGo (zF s) k := by
          show (fGo (zF s) k || (decide (k + 1 ≤ k) && (decide (k < fMd (zF s)) && hasA (zF s) n k))) = _
          have : ¬ k + 1 ≤ k := by omega
          simp [this]
        have hgo : ∀ j, fGo (goF (zF s) n k) j = if j = k then (fGo (zF s) k || hasA (zF s) n k) else fGo (goF (zF s) n (k + 1)) j := by
          intro j
          show (fGo (zF s) j || (decide (k ≤ j) && (decide (j < fMd (zF s)) && hasA (zF s) n j))) = if j = k then _ else (fGo (zF s) j || (decide (k + 1 ≤ j) && (decide (j < fMd (zF s)) && hasA (zF s) n j)))
          by_cases e : j = k
          · subst e; simp [hk1]
          · rw [if_neg e]
            have : (k ≤ j) = (k + 1 ≤ j) := propext ⟨fun h => by omega, fun h => by omega⟩
            simp only [this]
        obtain ⟨S5, e5⟩ : ∃ S5, S5 = sup S (g2.2 2 k) (ndC g2 (goF (zF s) n k) k) := ⟨_, rfl⟩
        have hck := (HH.2.2 k hkg).1
        have p5 : ∀ z : Bool, z = (fGo (zF s) k || hasA (zF s) n k) → pI .boolean S (some (g2.2 2 k)) 1 8 (b2i z) = some S5 := by
          intro z hz2
          simp only [pI, fit_b, if_true, pF_e hck]
          rw [if_pos (by simp), e5]
          refine congrArg some (congrArg (sup S (g2.2 2 k)) ?_)
          have hq := hgo k
          rw [if_pos rfl, ← hz2] at hq
          simp only [ndC, hq]
          rfl
        obtain ⟨H5, x5⟩ := RK_nd H (n := k) hkg (goF (zF s) n k) e5 rfl (fun _ _ => rfl) (fun j _ hj => by
          have hq := hgo j
          rw [if_neg hj] at hq
          simp only [ndC]
          rw [hq]
          rfl)
        refine ⟨S5, ⟨by omega, H5, KX_n (KX_tr xk x5) (Nat.le_refl _)⟩, ?_⟩
        have h169 : ∀ z : Bool, z = (fGo (zF s) k || hasA (zF s) n k) → n_X1_remove_b169 (n_X1_remove_b118 m) S (some (g2.2 1 0)) (some (g2.2 2 n)) C (nI k) (b2i z) (some (g2.2 2 k)) = n_X1_remove_b118 m S5 (some (g2.2 1 0)) (some (g2.2 2 n)) C (nI k - 1) := fun z hz2 => by
          simp only [n_X1_remove_b169, p5 z hz2, ob_s, i_addm1]
        have h164 : true = (fGo (zF s) k || hasA (zF s) n k) → n_X1_remove_b164 (n_X1_remove_b118 m) S (some (g2.2 1 0)) (some (g2.2 2 n)) C (nI k) (some (g2.2 2 k)) = n_X1_remove_b118 m S5 (some (g2.2 1 0)) (some (g2.2 2 n)) C (nI k - 1) := h169 true
        have h1690 : false = (fGo (zF s) k || hasA (zF s) n k) → n_X1_remove_b169 (n_X1_remove_b118 m) S (some (g2.2 1 0)) (some (g2.2 2 n)) C (nI k) 0 (some (g2.2 2 k)) = n_X1_remove_b118 m S5 (some (g2.2 1 0)) (some (g2.2 2 n)) C (nI k - 1) := h169 false
        have hH1 : RKn g2 (zN s) S := H.1
        simp only [n_X1_remove_b118, nI_pred, nI_lt0 (show k < 2 ^ 31 by omega), if_false, kn_0 hH1, ob_s, HH.1.cl, gd_t, ndl_get HH h6 hkg, bn_s, gcst_g (HH.cl hkg), nd_8 HH hkg, hgok, b2i_0, nd_some HH hkg hng, HH.cl hkg, k_isBelow HH Ag hkg hng, hblw]
        rcases Bool.eq_false_or_eq_true (fGo (zF s) k) with b1 | b1
        · rw [if_neg (by rw [b1]; decide)]
          exact h164 (by rw [b1]; rfl)
        · rw [if_pos b1]
          by_cases e1 : k = n
          · rw [if_pos e1]
            exact h164 (by rw [b1]; simp [hasA, e1])
          · rw [if_neg e1]
            rcases Bool.eq_false_or_eq_true (blw (zF s) k n) with b2 | b2
            · rw [if_neg (by rw [b2]; decide)]
              exact h164 (by rw [b1]; simp [hasA, b2])
            · rw [if_pos b2]
              exact h1690 (by rw [b1]; simp [hasA, b2, beq_false_of_ne e1])
      · intro m S ⟨_, H, xk⟩
        rw [goF_0] at H
        refine ⟨S, ⟨H, xk⟩, ?_⟩
        simp only [n_X1_remove_b118, e_m1, if_true]
end
