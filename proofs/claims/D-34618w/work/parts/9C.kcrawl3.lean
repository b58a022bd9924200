/-! the keeper's work: a crawl, whole -/
section
variable {S S' S1 : St} {g g' : GA} {T U : List Nat} {n m a b c x y t i j d : Nat} {f f' : Fl} {rs : List RtV} {en : En} {o : Nat → Option Nat} {ac : List AcV} {sg : List SgV} {w w' : Int64} {nm : Nm} {s : Sg} {rk : Nat → Nat} {k p : Nat} {e : EnV} {q l : List Nat} {r : RtV}
theorem cnB_ext {q : Nat → Bool} {m M : Nat} (h : ∀ k, m ≤ k → q k = false) (hm : m ≤ M) : cnB q M = cnB q m := by
  induction M with
  | zero => have : m = 0 := by omega
            subst this; rfl
  | succ M ih =>
    by_cases e : m = M + 1
    · subst e; rfl
    · simp only [cnB]
      rw [h M (by omega), ih (by omega)]; simp
theorem cnB_dis {p q : Nat → Bool} {m : Nat} (h : ∀ k, q k = true → p k = false) : cnB p m + cnB q m ≤ m := by
  induction m with
  | zero => exact Nat.le_refl _
  | succ m ih =>
    simp only [cnB]
    have := h m
    cases hq : q m with
    | true => rw [this hq]; simp; omega
    | false => simp; split <;> omega
theorem k_crE (h : RK g (wA (wR s (updR (zR s) r.1 (upv q w))) ac) S) (hN : ((zR s).map (·.1)).Nodup) (hr : r ∈ zR s) (hB : AB (zF s) ac) (hE : ES (zF s) (zE s)) (h6 : fMd (zF s) ≤ 60) : ∃ S' g', n_X1_crawl_b179 S (some (g.2 1 0)) (some (g.2 4 r.1)) = some ((), S') ∧ KX TT UU (cnB (fun k => (zE s k).isSome && !tb w k) 60 + 2 * ((zA (cwF s r.1 (ac, w, q))).length - ac.length)) g S g' S' ∧ RK g' (cwF s r.1 (ac, w, q)) S' := by
  have H := h
  obtain ⟨h1, h2, h3, h4, h5, h6', h7, h8⟩ := h
  have h3 : RKr g (updR (zR s) r.1 (upv q w)) S := h3
  have hm := upv_mem hr q w
  obtain ⟨k1, k2, k5, k6, k7, k8, k9⟩ := h3.2.2 _ hm
  obtain ⟨d1, d2⟩ := k5 q rfl
  have d1 : isDQ S (g.2 6 r.1) (q.map fun k => some (g.2 2 k)) := d1
  have k7 : g.1 (g.2 4 r.1) = (4, r.1) := k7
  have k9 : g.1 (g.2 7 r.1) = (7, r.1) := k9
  have g3 : gR S (some (g.2 4 r.1)) 4 3 = some (some (g.2 6 r.1)) := rt_3 h3 hm
  simp only [n_X1_crawl_b179, g3, ob_s, d1.cl, gd_t, dq_isEmpty d1, bn_s, List.length_map]
  cases hq : q with
  | cons y q' =>
    subst hq
    have ec : cwF s r.1 (ac, w, y :: q') = wA (wR s (updR (zR s) r.1 (upv (y :: q') w))) ac := by unfold cwF; rw [if_neg (by simp)]; rfl
    rw [ec]
    refine ⟨S, g, by simp, KX_n (KX_rf (by decide)) (Nat.zero_le _), H⟩
  | nil =>
    subst hq
    have ec : cwF s r.1 (ac, w, []) = wA (wR s (updR (zR s) r.1 fun r => (r.1, r.2.1, r.2.2.1, none, w))) (cw2 (zE s) w ac 60) := by unfold cwF; rw [if_pos (by rfl)]
    rw [ec]
    obtain ⟨S1, e1⟩ : ∃ S1, S1 = sup S (g.2 4 r.1) (rtC g (r.1, r.2.1, r.2.2.1, none, w)) := ⟨_, rfl⟩
    have p1 : pR S (some (g.2 4 r.1)) 4 3 none = some S1 := by
      rw [e1, pR_e (show S.1 (g.2 4 r.1) = some (cO 4 [vR (some (g.2 2 r.1)), vR (some (g.2 5 r.1)), vI (b2i r.2.2.1), vR (some (g.2 6 r.1)), vR (some (g.2 7 r.1))]) from k1), if_pos (by simp)]; rfl
    have hN' : ((updR (zR s) r.1 (upv [] w)).map (·.1)).Nodup := by rw [upv_map]; exact hN
    have r1 : RKr g (updR (zR s) r.1 fun r => (r.1, r.2.1, r.2.2.1, none, w)) S1 := by
      have key := RKr_cell (r := upv [] w r) h3 hN' hm (fun r => (r.1, r.2.1, r.2.2.1, none, w)) rfl rfl rfl (Or.inl rfl)
      have key : RKr g (updR (updR (zR s) r.1 (upv [] w)) r.1 fun r => (r.1, r.2.1, r.2.2.1, none, w)) (sup S (g.2 4 r.1) (rtC g (r.1, r.2.1, r.2.2.1, none, w))) := key
      rw [updR_updR _ _ (upv [] w) (fun r => (r.1, r.2.1, r.2.2.1, none, w)) (fun _ => rfl), ← e1] at key
      exact key
    have x1 : KX [0, 4] [] 0 g S g S1 := by rw [e1]; exact KX_ch1 (Ch_sup _) k7
    have c1 : S1.1 (g.2 4 r.1) = some (rtC g (r.1, r.2.1, r.2.2.1, none, w)) := by rw [e1]; exact sup_at _ _ _
    obtain ⟨S2, g2, a1, a2, a3, a4⟩ := k_unmet (g0 := g) (X := some (g.2 4 r.1)) (x1 := g.2 4 r.1) (bs := g.2 7 r.1) (w := w) (t := r.1) (h1.kx x1) (h2.kx x1) (h4.kx x1) (h5.kx x1) (FR_sm h8.2.2.2 x1.le) hB hE h6 rfl (fun S' hS' => by
      rw [gR_e ((hS' (g.2 4 r.1) (by rw [show g.1 (g.2 4 r.1) = (4, r.1) from k7]; simp)).trans c1)]; rfl) ((x1.at1 k9 (by decide)).trans k6) k9
    have xx : KX [0, 4, 11, 23] [11] (cnB (fun k => (zE s k).isSome && !tb w k) 60 + 2 * ((cw2 (zE s) w ac 60).length - ac.length)) g S g2 S2 := KX_n (KX_tr (KX_up x1 (by decide) (by decide) (Nat.le_refl _)) (KX_up a2 (by decide) (by decide) (Nat.le_refl _))) (by show 0 + (cnB (fun k => (zE s k).isSome && !tb w k) 60 + 2 * ((cw2 (zE s) w ac 60).length - ac.length)) ≤ _; omega)
    refine ⟨S2, g2, ?_, KX_all xx (Nat.le_refl _), h1.kx xx, h2.kx xx, r1.kx a2, h4.kx xx, a3, h6'.kx xx, h7.kx xx, h8.kx xx a4⟩
    simp only [List.length_nil, if_true, i10, if_false, p1, ob_s]
    exact a1
theorem k_crwl (h : RK g s S) (hI : IW s rk) (hr : r ∈ zR s) (hc : r.2.2.2.1 = some (d :: l)) : ∃ S' g', n_X1_crawl S (some (g.2 1 0)) (some (g.2 4 r.1)) = some ((), S') ∧ KX TT UU (fMd (zF s) + 23 + 2 * ((zA (crwl s r)).length - (zA s).length)) g S g' S' ∧ RK g' (crwl s r) S' := by
  obtain ⟨A, h6, hT, hN, hB, hE, hF, hS, hF1, hE0, hW⟩ := hI
  obtain ⟨h1, h2, h3, h4, h5, h6', h7, h8⟩ := h
  have hrb := hT.2 r hr
  obtain ⟨-, hnd, hbd⟩ := hrb.2.2.2.2 _ hc
  have hln : l.Nodup := (List.nodup_cons.mp hnd).2
  have hlb : ∀ y ∈ l, y < fMd (zF s) := fun y hy => hbd y (List.mem_cons_of_mem _ hy)
  have hd : d < fMd (zF s) := hbd d List.mem_cons_self
  obtain ⟨k1, ⟨ts, t1, t2, t3⟩, k5, k6, k7, k8, k9⟩ := h3.2.2 r hr
  obtain ⟨d1, d2⟩ := k5 _ hc
  obtain ⟨S1, a1, a2, a3, a4⟩ := dq_removeFirst (x := some (g.2 2 d)) (xs := l.map fun k => some (g.2 2 k)) d1
  have ne : ∀ {z u v}, g.1 z = (u, v) → u ≠ 6 → z ≠ g.2 6 r.1 := fun {z u v} hz hu e => by
    rw [e, d2] at hz; exact hu (congrArg (·.1) hz).symm
  have x1 : KX [0, 6] [] 0 g S g S1 := KX_ch1 a4 d2
  obtain ⟨w0, ew⟩ : ∃ w0, w0 = r.2.2.2.2 := ⟨_, rfl⟩
  have r1 : RKr g (updR (zR s) r.1 (upv l w0)) S1 := by
    refine RKr_ch (t0 := 6) h3 hN.1 hr (upv l w0) rfl d2 (by decide) a4 ⟨?_, ⟨ts, t1.fr (a4.1 _ (ne k8 (by decide))), t2, fun i t p ht hp => ?_⟩, fun l' hl' => ?_, ?_, k7, k8, k9⟩
    · rw [show g.2 4 (upv l w0 r).1 = g.2 4 r.1 from rfl, a4.1 _ (ne k7 (by decide)), k1]
      simp only [rtC, hc]
      rfl
    · obtain ⟨u1, u2⟩ := t3 i t p ht hp
      refine ⟨?_, u2⟩
      rw [a4.1 _ (ne (show g.1 t = (8, (g.1 t).2) by rw [← u2]) (by decide)), u1]
      simp only [toldC, a4.2.2.2.2]
    · have hl' : some l = some l' := hl'
      cases hl'
      exact ⟨a2, d2⟩
    · rw [ew]; exact (a4.1 _ (ne k9 (by decide))).trans k6
  have H1 : RK g (wA (wR s (updR (zR s) r.1 (upv l w0))) (zA s)) S1 := ⟨h1.kx x1, h2.kx x1, r1, h4.kx x1, h5.kx x1, h6'.kx x1, h7.kx x1, h8.kx x1 (FR_sm h8.2.2.2 x1.le)⟩
  have f1 := h2.kx x1
  have n1 := h1.kx x1
  have hm := upv_mem hr l w0
  have ecr : crwl s r = cwF s r.1 (cwZ s r l d) := by unfold crwl; rw [hc]
  have hunm : ∀ w : Int64, cnB (fun k => (zE s k).isSome && !tb w k) 60 = cnB (fun k => (zE s k).isSome && !tb w k) (fMd (zF s)) := fun w => cnB_ext (fun k hk => by
    cases he : zE s k with
    | none => rfl
    | some e => have := (hE k e he).1; omega) h6
  have hR1 : RS (zF s) (updR (zR s) r.1 (upv l w0)) := updR_RS hT.toS fun _ => rfl
  have g3 : gR S (some (g.2 4 r.1)) 4 3 = some (some (g.2 6 r.1)) := by rw [rt_3 h3 hr, hc]; rfl
  have hall : n_X6_hasAll S1 (some (g.2 4 r.1)) (some (g.2 2 d)) = some (b2i (hasA (zF s) r.1 d), S1) := k_hasAll (r := upv l w0 r) f1 r1 A hR1 hm hd
  have rcl : grc S1 (some (g.2 4 r.1)) 4 = true := RKr.cl (r := upv l w0 r) r1 hm
  have d1' : isDQ S (g.2 6 r.1) ((d :: l).map fun k => some (g.2 2 k)) := d1
  simp only [n_X1_crawl, g3, ob_s, d1'.cl, gd_t, a1, bn_s, gcst_g (f1.cl hd), nd_8 f1 hd, b2i_0, rcl, hall]
  have none' : (!fGo (zF s) d && hasA (zF s) r.1 d) = false → ∃ S' g', n_X1_crawl_b179 S1 (some (g.2 1 0)) (some (g.2 4 r.1)) = some ((), S') ∧ KX TT UU (fMd (zF s) + 23 + 2 * ((zA (crwl s r)).length - (zA s).length)) g S g' S' ∧ RK g' (crwl s r) S' := by
    intro hcz
    have ez : cwZ s r l d = (zA s, w0, l) := by unfold cwZ; rw [if_neg (by rw [hcz]; decide), ew]
    rw [ecr, ez]
    obtain ⟨S2, g2, q1, q2, q3⟩ := k_crE H1 hN.1 hr hB hE h6
    refine ⟨S2, g2, q1, KX_n (KX_tr (KX_all x1 (Nat.le_refl _)) q2) ?_, q3⟩
    have := cnB_le (fun k => (zE s k).isSome && !tb w0 k) (fMd (zF s))
    rw [hunm]; omega
  rcases Bool.eq_false_or_eq_true (fGo (zF s) d) with b1 | b1
  · rw [if_neg (by rw [b1]; decide)]
    exact none' (by simp [b1])
  · rw [if_pos b1]
    rcases Bool.eq_false_or_eq_true (hasA (zF s) r.1 d) with b2 | b2
    · rw [if_neg (by rw [b2]; decide)]
      have ez : cwZ s r l d = cw1 (zF s) (zE s) d (zA s, w0, l) (fMd (zF s)) := by unfold cwZ; rw [if_pos (by simp [b1, b2]), ew]
      rw [ecr, ez]
      have key := lp_ex (fun m k (c : St × GA) => n_X1_crawl_b28 m c.1 (some (g.2 1 0)) (some (g.2 4 r.1)) (some (g.2 2 d)) (nI k)) (fun k c => KX [0, 6, 7, 11, 23] [11] (cnB (fun j => tb (cw1 (zF s) (zE s) d (zA s, w0, l) k).2.1 j) k + (dqG S1 (g.2 6 r.1) - dqG c.1 (g.2 6 r.1)) + 2 * ((cw1 (zF s) (zE s) d (zA s, w0, l) k).1.length - (zA s).length)) g S1 c.2 c.1 ∧ (zA s).length ≤ (cw1 (zF s) (zE s) d (zA s, w0, l) k).1.length ∧ dqG c.1 (g.2 6 r.1) ≤ dqG S1 (g.2 6 r.1) ∧ RKa c.2 (cw1 (zF s) (zE s) d (zA s, w0, l) k).1 c.1 ∧ FR c.2 c.1 ∧ RKr c.2 (updR (zR s) r.1 (upv (cw1 (zF s) (zE s) d (zA s, w0, l) k).2.2 (cw1 (zF s) (zE s) d (zA s, w0, l) k).2.1)) c.1) (fun b => ∃ S' g', b = ((), S') ∧ KX TT UU (fMd (zF s) + 23 + 2 * ((zA (cwF s r.1 (cw1 (zF s) (zE s) d (zA s, w0, l) (fMd (zF s))))).length - (zA s).length)) g S1 g' S' ∧ RK g' (cwF s r.1 (cw1 (zF s) (zE s) d (zA s, w0, l) (fMd (zF s)))) S') (fMd (zF s)) ?_ ?_ FU 0 (S1, g) (by omega) (by simp only [FU]; omega) ⟨KX_n (KX_rf (by decide)) (Nat.zero_le _), Nat.le_refl _, Nat.le_refl _, h5.kx x1, FR_sm h8.2.2.2 x1.le, r1⟩
      · obtain ⟨b, z1, S', g', rfl, z2, z3⟩ := key
        rw [nI_0] at z1
        exact ⟨S', g', z1, KX_n (KX_tr (KX_all x1 (Nat.le_refl _)) z2) (by omega), z3⟩
      · intro m k ⟨S2, g2⟩ hk hh
        dsimp only at hh
        obtain ⟨y1, y0, y2, y3, y4, y5⟩ := hh
        refine Or.inl ?_
        have a10 : g2.2 1 = g.2 1 := y1.ad (by decide)
        have a4' : g2.2 4 = g.2 4 := y1.ad (by decide)
        have a2' : g2.2 2 = g.2 2 := y1.ad (by decide)
        have a6' : g2.2 6 = g.2 6 := y1.ad (by decide)
        obtain ⟨o1, o2, o3⟩ := cw1_ok (en := zE s) (d := d) (x := w0) hB hln hlb k (Nat.le_of_lt hk)
        obtain ⟨T, eT⟩ : ∃ T, T = cw1 (zF s) (zE s) d (zA s, w0, l) k := ⟨_, rfl⟩
        rw [← eT] at y1 y0 y3 y5 o1 o2 o3
        obtain ⟨S3, g3', z1, z2, z3, z4, z5, z6⟩ := k_b28 (d := d) (n1.kx y1) (f1.kx y1) A ((h4.kx x1).kx y1) hE y3 o1 y5 y4 hN.1 hr o3 o2 hF h6 hd hk
        rw [a10, a4', a2'] at z1
        rw [a6'] at z2 z3
        have es : cw1 (zF s) (zE s) d (zA s, w0, l) (k + 1) = cwN (zF s) (zE s) d (T.1, T.2.1, T.2.2) k := by rw [eT]; rfl
        have gz : T.1.length ≤ (cwN (zF s) (zE s) d (T.1, T.2.1, T.2.2) k).1.length := by
          unfold cwN
          split
          · show T.1.length ≤ (if kno (zF s) (zE s) k = true then T.1 else adA T.1 k false).length
            split
            · exact Nat.le_refl _
            · exact adA_ge _ _ _
          · exact Nat.le_refl _
        refine ⟨(S3, g3'), ⟨?_, ?_, Nat.le_trans z3 y2, ?_, z5, ?_⟩, z1 m⟩
        · rw [es]
          have hcn : cnB (fun j => tb T.2.1 j) k + (if !fGo (zF s) k && fPa (zF s) k == some d then 1 else 0) ≤ cnB (fun j => tb (cwN (zF s) (zE s) d (T.1, T.2.1, T.2.2) k).2.1 j) (k + 1) := by
            simp only [cnB]
            unfold cwN
            split
            · next hcc =>
              have hmn := cnB_mono (p := fun j => tb T.2.1 j) (q := fun j => tb (T.2.1 ||| bbit (nI k)) j) (n := k) (fun j hj hp => by
                show tb (T.2.1 ||| bbit (nI k)) j = true
                rw [tb_set _ (by omega) (by omega)]
                have hp : tb T.2.1 j = true := hp
                rw [hp]; rfl)
              have hkk : tb (T.2.1 ||| bbit (nI k)) k = true := by rw [tb_set _ (by omega) (by omega)]; simp
              show cnB (fun j => tb T.2.1 j) k + 1 ≤ cnB (fun j => tb (T.2.1 ||| bbit (nI k)) j) k + if tb (T.2.1 ||| bbit (nI k)) k = true then 1 else 0
              rw [if_pos hkk]
              omega
            · show cnB (fun j => tb T.2.1 j) k + 0 ≤ cnB (fun j => tb T.2.1 j) k + if tb T.2.1 k = true then 1 else 0
              omega
          refine KX_n (KX_tr y1 z2) ?_
          dsimp only
          omega
        · rw [es]; omega
        · rw [es]; exact z4
        · rw [es]; exact z6
      · intro m ⟨S2, g2⟩ hh
        dsimp only at hh
        obtain ⟨y1, y0, y2, y3, y4, y5⟩ := hh
        have a10 : g2.2 1 = g.2 1 := y1.ad (by decide)
        have a4' : g2.2 4 = g.2 4 := y1.ad (by decide)
        have a20 : g2.2 20 = g.2 20 := y1.ad (by decide)
        obtain ⟨o1, o2, o3⟩ := cw1_ok (en := zE s) (d := d) (x := w0) hB hln hlb (fMd (zF s)) (Nat.le_refl _)
        obtain ⟨T, eT⟩ : ∃ T, T = cw1 (zF s) (zE s) d (zA s, w0, l) (fMd (zF s)) := ⟨_, rfl⟩
        rw [← eT] at y1 y0 y3 y5 o1 o2 o3 ⊢
        have H2 : RK g2 (wA (wR s (updR (zR s) r.1 (upv T.2.2 T.2.1))) T.1) S2 := ⟨n1.kx y1, f1.kx y1, y5, (h4.kx x1).kx y1, y3, (h6'.kx x1).kx y1, (h7.kx x1).kx y1, H1.2.2.2.2.2.2.2.kx y1 y4⟩
        obtain ⟨S3, g3', q1, q2, q3⟩ := k_crE H2 hN.1 hr o1 hE h6
        rw [a10, a4'] at q1
        refine ⟨((), S3), ?_, S3, g3', rfl, KX_n (KX_tr (KX_all y1 (Nat.le_refl _)) q2) ?_, q3⟩
        · have q0 := kn_0 (n1.kx y1)
          have ncl := (f1.kx y1).1.cl
          have sz := ndl_size (f1.kx y1)
          rw [a10, a20] at q0
          rw [a20] at ncl sz
          simp only [n_X1_crawl_b28, q0, ob_s, ncl, gd_t, sz, bn_s, Int32.le_refl, if_true]
          exact q1
        · have := cnB_dis (p := fun j => tb T.2.1 j) (q := fun k => (zE s k).isSome && !tb T.2.1 k) (m := fMd (zF s)) (fun k hk => by
            rw [Bool.and_eq_true] at hk
            simpa using hk.2)
          have := dqG_le S1 (g.2 6 r.1)
          have e3 : cwF s r.1 (T.1, T.2.1, T.2.2) = cwF s r.1 T := rfl
          rw [e3]
          have gz : T.1.length ≤ (zA (cwF s r.1 T)).length := by
            unfold cwF
            split
            · exact cw2_ge _ _ _ _
            · exact Nat.le_refl _
          rw [hunm]
          omega
    · rw [if_pos b2]
      exact none' (by simp [b2])
end
