/-! the keeper's work: a crawl; one node of the folder -/
def cwN (f : Fl) (en : En) (d : Nat) (s : List AcV × Int64 × List Nat) (k : Nat) : List AcV × Int64 × List Nat := if !fGo f k && fPa f k == some d then (if kno f en k then s.1 else adA s.1 k false, s.2.1 ||| bbit (nI k), if fFo f k && !(s.2.2.any fun j => j == k) then s.2.2 ++ [k] else s.2.2) else s
section
variable {S S' S1 : St} {g g' : GA} {T U : List Nat} {n m a b c x y t i j d : Nat} {f f' : Fl} {rs : List RtV} {en : En} {o : Nat → Option Nat} {ac : List AcV} {sg : List SgV} {w w' : Int64} {nm : Nm} {s : Sg} {rk : Nat → Nat} {k p : Nat} {e : EnV} {q l : List Nat} {r : RtV}
theorem cw1_s (s : List AcV × Int64 × List Nat) : cw1 f en d s (k + 1) = cwN f en d (cw1 f en d s k) k := rfl
theorem k_b144 {x0 x2 : Option Nat} (hf : RKf g f S) (h : RKr g (updR rs r.1 (upv q w)) S) (hN : (rs.map (·.1)).Nodup) (hr : r ∈ rs) (hqb : ∀ y ∈ q, y < fMd f) (hqn : q.Nodup) (h6 : fMd f ≤ 60) (hk : k < fMd f) : ∃ S', (∀ k28 : St → Option Nat → Option Nat → Option Nat → Int32 → Option (Unit × St), n_X1_crawl_b144 k28 S x0 (some (g.2 4 r.1)) x2 (nI k) (some (g.2 2 k)) = k28 S' x0 (some (g.2 4 r.1)) x2 (nI (k + 1))) ∧ KX [0, 6] [] (dqG S (g.2 6 r.1) - dqG S' (g.2 6 r.1)) g S g S' ∧ dqG S' (g.2 6 r.1) ≤ dqG S (g.2 6 r.1) ∧ RKr g (updR rs r.1 (upv (if fFo f k && !(q.any fun j => j == k) then q ++ [k] else q) w)) S' := by
  have hm := upv_mem hr q w
  obtain ⟨k1, k2, k5, k6, k7, k8, k9⟩ := h.2.2 _ hm
  obtain ⟨d1, d2⟩ := k5 q rfl
  have d1 : isDQ S (g.2 6 r.1) (q.map fun k => some (g.2 2 k)) := d1
  have d2 : g.1 (g.2 6 r.1) = (6, r.1) := d2
  have g3 : gR S (some (g.2 4 r.1)) 4 3 = some (some (g.2 6 r.1)) := rt_3 h hm
  have hmem : (some (g.2 2 k) ∈ q.map fun k => some (g.2 2 k)) = ((q.any fun j => j == k) = true) := by
    refine propext ⟨fun z => ?_, fun z => ?_⟩
    · obtain ⟨j, hj, ej⟩ := List.mem_map.mp z
      rw [nd_some hf (hqb j hj) hk] at ej
      exact List.any_eq_true.mpr ⟨j, hj, by simp [ej]⟩
    · obtain ⟨j, hj, ej⟩ := List.any_eq_true.mp z
      have : j = k := by simpa using ej
      subst this
      exact List.mem_map.mpr ⟨j, hj, rfl⟩
  have ln : q.length ≤ 60 := Nat.le_trans (nd_len (fMd f) q hqn hqb) h6
  obtain ⟨B, eB⟩ : ∃ B, B = (q.any fun j => j == k) := ⟨_, rfl⟩
  rw [← eB] at hmem ⊢
  simp only [n_X1_crawl_b144, n_X1_crawl_b173, nd_1 hf hk, ob_s, b2i_0, nI_1]
  cases b1 : fFo f k with
  | true =>
    simp only [g3, ob_s, d1.cl, gd_t, dq_contains d1 (hf.cl hk), bn_s, hmem]
    cases B with
    | true => exact ⟨S, fun k28 => by simp, KX_n (KX_rf (by decide)) (Nat.zero_le _), Nat.le_refl _, h⟩
    | false =>
      obtain ⟨S1, a1, a2, a3, a4⟩ := dq_addLast d1 (x := some (g.2 2 k)) (okst_g (hf.cl hk) (by decide)) rfl (by rw [List.length_map]; omega)
      refine ⟨S1, fun k28 => by simp [a1, bn_s], KX_ch1 a4 d2, a3, upv_dq h hN hr a4 ?_⟩
      show isDQ S1 (g.2 6 r.1) ((q ++ [k]).map fun k => some (g.2 2 k))
      rw [List.map_append]; exact a2
  | false => exact ⟨S, fun k28 => by simp, KX_n (KX_rf (by decide)) (Nat.zero_le _), Nat.le_refl _, h⟩
theorem k_b28 (hn : RKn g nm S) (hf : RKf g f S) (A : AC f rk) (he : RKe g en o S) (hE : ES f en) (ha : RKa g ac S) (hB : AB f ac) (h : RKr g (updR rs r.1 (upv q w)) S) (hF : FR g S) (hN : (rs.map (·.1)).Nodup) (hr : r ∈ rs) (hqb : ∀ y ∈ q, y < fMd f) (hqn : q.Nodup) (hFS : FS f) (h6 : fMd f ≤ 60) (hd : d < fMd f) (hk : k < fMd f) : ∃ S' g', (∀ m, n_X1_crawl_b28 (m + 1) S (some (g.2 1 0)) (some (g.2 4 r.1)) (some (g.2 2 d)) (nI k) = n_X1_crawl_b28 m S' (some (g.2 1 0)) (some (g.2 4 r.1)) (some (g.2 2 d)) (nI (k + 1))) ∧ KX [0, 6, 7, 11, 23] [11] ((if !fGo f k && fPa f k == some d then 1 else 0) + (dqG S (g.2 6 r.1) - dqG S' (g.2 6 r.1)) + 2 * ((cwN f en d (ac, w, q) k).1.length - ac.length)) g S g' S' ∧ dqG S' (g.2 6 r.1) ≤ dqG S (g.2 6 r.1) ∧ RKa g' (cwN f en d (ac, w, q) k).1 S' ∧ FR g' S' ∧ RKr g' (updR rs r.1 (upv (cwN f en d (ac, w, q) k).2.2 (cwN f en d (ac, w, q) k).2.1)) S' := by
  have hm := upv_mem hr q w
  have hpar : ((fPa f k).map (g.2 2) = some (g.2 2 d)) = (fPa f k = some d) := nd_opt hf (fun q hq => ((A k hk).2 q hq).1) hd
  have hle : (nI (fMd f) ≤ nI k) = False := by
    rw [nI_leE (by omega) (by omega)]; exact eq_false (by omega)
  have skip : (!fGo f k && fPa f k == some d) = false → KX [0, 6, 7, 11, 23] [11] ((if !fGo f k && fPa f k == some d then 1 else 0) + (dqG S (g.2 6 r.1) - dqG S (g.2 6 r.1)) + 2 * ((cwN f en d (ac, w, q) k).1.length - ac.length)) g S g S ∧ dqG S (g.2 6 r.1) ≤ dqG S (g.2 6 r.1) ∧ RKa g (cwN f en d (ac, w, q) k).1 S ∧ FR g S ∧ RKr g (updR rs r.1 (upv (cwN f en d (ac, w, q) k).2.2 (cwN f en d (ac, w, q) k).2.1)) S := fun hc => by
    have e : cwN f en d (ac, w, q) k = (ac, w, q) := by unfold cwN; rw [if_neg (by rw [hc]; decide)]
    rw [e]
    exact ⟨KX_n (KX_rf (by decide)) (Nat.zero_le _), Nat.le_refl _, ha, hF, h⟩
  rcases Bool.eq_false_or_eq_true (fGo f k) with b1 | b1
  · refine ⟨S, g, fun m => ?_, skip (by simp [b1])⟩
    simp only [n_X1_crawl_b28, n_X1_crawl_b173, kn_0 hn, ob_s, hf.1.cl, gd_t, ndl_size hf, bn_s, hle, if_false, ndl_get hf h6 hk, gcst_g (hf.cl hk), nd_8 hf hk, b2i_0, b1, Bool.true_eq_false, nI_1]
  · by_cases ep : fPa f k = some d
    · have hc : (!fGo f k && fPa f k == some d) = true := by simp [b1, ep]
      have ec : cwN f en d (ac, w, q) k = (if kno f en k then ac else adA ac k false, w ||| bbit (nI k), if fFo f k && !(q.any fun j => j == k) then q ++ [k] else q) := by unfold cwN; rw [if_pos hc]
      rw [ec, if_pos hc]
      obtain ⟨k1, k2, k5, k6, k7, k8, k9⟩ := h.2.2 _ hm
      have k6 : S.1 (g.2 7 r.1) = some (cBS w) := k6
      have k9 : g.1 (g.2 7 r.1) = (7, r.1) := k9
      have d2 : g.1 (g.2 6 r.1) = (6, r.1) := (k5 q rfl).2
      have g4 : gR S (some (g.2 4 r.1)) 4 4 = some (some (g.2 7 r.1)) := rt_4 (r := upv q w r) h hm
      obtain ⟨S1, e1⟩ : ∃ S1, S1 = sup S (g.2 7 r.1) (cBS (w ||| bbit (nI k))) := ⟨_, rfl⟩
      have p1 : h_J5_set S (some (g.2 7 r.1)) (nI k) = some ((), S1) := by rw [e1]; exact bs_set k6 (by omega)
      have x1 : KX [0, 7] [] 0 g S g S1 := by rw [e1]; exact KX_ch1 (Ch_sup _) k9
      have n1 := hn.kx x1
      have f1 := hf.kx x1
      have en1 := he.kx x1
      have ra1 := ha.kx x1
      have F1 := FR_sm hF x1.le
      have r1 := upv_met h hN hr e1
      have dq1 : dqG S1 (g.2 6 r.1) = dqG S (g.2 6 r.1) := dqG_fr (x1.at1 d2 (by decide))
      -- it is known
      have known : kno f en k = true → ∃ S' g', (∀ m, n_X1_crawl_b144 (n_X1_crawl_b28 m) S1 (some (g.2 1 0)) (some (g.2 4 r.1)) (some (g.2 2 d)) (nI k) (some (g.2 2 k)) = n_X1_crawl_b28 m S' (some (g.2 1 0)) (some (g.2 4 r.1)) (some (g.2 2 d)) (nI (k + 1))) ∧ KX [0, 6, 7, 11, 23] [11] (1 + (dqG S (g.2 6 r.1) - dqG S' (g.2 6 r.1)) + 2 * ((if kno f en k then ac else adA ac k false).length - ac.length)) g S g' S' ∧ dqG S' (g.2 6 r.1) ≤ dqG S (g.2 6 r.1) ∧ RKa g' (if kno f en k then ac else adA ac k false) S' ∧ FR g' S' ∧ RKr g' (updR rs r.1 (upv (if fFo f k && !(q.any fun j => j == k) then q ++ [k] else q) (w ||| bbit (nI k)))) S' := by
        intro hkn
        obtain ⟨S2, a1, a2, a3, a4⟩ := k_b144 (x0 := some (g.2 1 0)) (x2 := some (g.2 2 d)) f1 r1 hN hr hqb hqn h6 hk
        have x2 : KX [0, 6, 7, 11, 23] [11] (1 + (dqG S (g.2 6 r.1) - dqG S2 (g.2 6 r.1)) + 2 * ((if kno f en k then ac else adA ac k false).length - ac.length)) g S g S2 := KX_n (KX_tr (KX_up x1 (by decide) (by decide) (Nat.le_refl _)) (KX_up a2 (by decide) (by decide) (Nat.le_refl _))) (by rw [dq1]; omega)
        refine ⟨S2, g, fun m => a1 _, x2, by rw [← dq1]; exact a3, ?_, FR_sm F1 a2.le, a4⟩
        rw [if_pos hkn]; exact ra1.kx a2
      have unkn : kno f en k = false → ∃ S' g', (∀ m, n_X1_crawl_b137 (n_X1_crawl_b28 m) S1 (some (g.2 1 0)) (some (g.2 4 r.1)) (some (g.2 2 d)) (nI k) (some (g.2 2 k)) = n_X1_crawl_b28 m S' (some (g.2 1 0)) (some (g.2 4 r.1)) (some (g.2 2 d)) (nI (k + 1))) ∧ KX [0, 6, 7, 11, 23] [11] (1 + (dqG S (g.2 6 r.1) - dqG S' (g.2 6 r.1)) + 2 * ((if kno f en k then ac else adA ac k false).length - ac.length)) g S g' S' ∧ dqG S' (g.2 6 r.1) ≤ dqG S (g.2 6 r.1) ∧ RKa g' (if kno f en k then ac else adA ac k false) S' ∧ FR g' S' ∧ RKr g' (updR rs r.1 (upv (if fFo f k && !(q.any fun j => j == k) then q ++ [k] else q) (w ||| bbit (nI k)))) S' := by
        intro hkn
        obtain ⟨S2, g2, b1', b2, b3, b4⟩ := k_add n1 f1 ra1 F1 hB h6 hk false
        have y4 : g2.2 4 = g.2 4 := b2.ad (by decide)
        have y6 : g2.2 6 = g.2 6 := b2.ad (by decide)
        have y2 : g2.2 2 = g.2 2 := b2.ad (by decide)
        have dq2 : dqG S2 (g.2 6 r.1) = dqG S1 (g.2 6 r.1) := dqG_fr (b2.at1 d2 (by decide))
        obtain ⟨S3, a1, a2, a3, a4⟩ := k_b144 (x0 := some (g.2 1 0)) (x2 := some (g.2 2 d)) (f1.kx b2) (r1.kx b2) hN hr hqb hqn h6 hk
        rw [y4, y2] at a1
        rw [y6] at a2 a3
        have x3 : KX [0, 6, 7, 11, 23] [11] (1 + (dqG S (g.2 6 r.1) - dqG S3 (g.2 6 r.1)) + 2 * ((if kno f en k then ac else adA ac k false).length - ac.length)) g S g2 S3 := KX_n (KX_tr (KX_tr (KX_up x1 (by decide) (by decide) (Nat.le_refl _)) (KX_up b2 (by decide) (by decide) (Nat.le_refl _))) (KX_up a2 (by decide) (by decide) (Nat.le_refl _))) (by rw [hkn, if_neg (by decide), dq2, dq1]; omega)
        refine ⟨S3, g2, fun m => ?_, x3, by rw [← dq1, ← dq2]; exact a3, ?_, FR_sm b4 a2.le, a4⟩
        · simp only [n_X1_crawl_b137, n1.cl, gd_t]
          rw [show n_X1_add S1 (some (g.2 1 0)) (some (g.2 2 k)) 0 = some ((), S2) from b1', bn_s]
          exact a1 _
        · rw [hkn, if_neg (by decide)]; exact b3.kx a2
      have start : ∀ m, n_X1_crawl_b28 (m + 1) S (some (g.2 1 0)) (some (g.2 4 r.1)) (some (g.2 2 d)) (nI k) = if kno f en k = true then n_X1_crawl_b144 (n_X1_crawl_b28 m) S1 (some (g.2 1 0)) (some (g.2 4 r.1)) (some (g.2 2 d)) (nI k) (some (g.2 2 k)) else n_X1_crawl_b137 (n_X1_crawl_b28 m) S1 (some (g.2 1 0)) (some (g.2 4 r.1)) (some (g.2 2 d)) (nI k) (some (g.2 2 k)) := by
        intro m
        have hbs : grc S (some (g.2 7 r.1)) 10 = true := isBS_cl k6
        simp only [n_X1_crawl_b28, kn_0 hn, ob_s, hf.1.cl, gd_t, ndl_size hf, bn_s, hle, if_false, ndl_get hf h6 hk, gcst_g (hf.cl hk), nd_8 hf hk, b2i_0, b1, if_true, nd_2 hf hk, hpar, ep, g4, hbs, p1, kn_2 n1, en_get en1 (show k < 60 by omega)]
        cases hek : en k with
        | none =>
          have : kno f en k = false := by unfold kno; rw [hek]
          simp [this]
        | some ev =>
          have hb := hE k ev hek
          have l2 := (hFS k hk).1
          have hkn : kno f en k = (ev.1 == d && ev.2.1 == fNm f k && (fFo f k || ev.2.2.1 == fEd f k)) := by
            unfold kno
            rw [hek, ep]
            simp
          simp only [Option.isSome_some, if_true, reduceCtorEq, if_false, en_1 en1 hek, en_2 en1 hek, en_3 en1 hek, nd_3 f1 hk, nd_1 f1 hk, nd_4 f1 hk, ob_s, nd_some f1 hb.2.1 hd, b2i_0, nI_eqE (show ev.2.2.1 < 2 ^ 31 by omega) (show fEd f k < 2 ^ 31 by omega), hkn]
          by_cases e1 : ev.1 = d
          · by_cases e2 : ev.2.1 = fNm f k
            · rcases Bool.eq_false_or_eq_true (fFo f k) with b3 | b3
              · simp [e1, e2, b3]
              · by_cases e4 : ev.2.2.1 = fEd f k
                · simp [e1, e2, b3, e4]
                · simp [e1, e2, b3, e4]
            · simp [e1, e2]
          · simp [e1]
      rcases Bool.eq_false_or_eq_true (kno f en k) with bk | bk
      · obtain ⟨S', g', z1, z2⟩ := known bk
        exact ⟨S', g', fun m => by rw [start m, if_pos bk, z1 m], z2⟩
      · obtain ⟨S', g', z1, z2⟩ := unkn bk
        exact ⟨S', g', fun m => by rw [start m, if_neg (by rw [bk]; decide), z1 m], z2⟩
    · refine ⟨S, g, fun m => ?_, skip (by simp [ep])⟩
      simp only [n_X1_crawl_b28, n_X1_crawl_b173, kn_0 hn, ob_s, hf.1.cl, gd_t, ndl_size hf, bn_s, hle, if_false, ndl_get hf h6 hk, gcst_g (hf.cl hk), nd_8 hf hk, b2i_0, b1, if_true, nd_2 hf hk, hpar, ep, nI_1]
end
