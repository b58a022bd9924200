/-! the reference's work: a crawl goes on -/
section
variable {M : Nat} {S : St} {u v w : MM} {f f' : Fl} {rs rs' : List RtV} {en : En} {ac : List AcV} {s : Sg} {rk rk' : Nat → Nat}
theorem RRt_met {a : Nat} {b : List (Nat × Nat)} {c : Bool} {d : Option (List Nat)} {x : Int64} {i n : Nat} (h : RRt (a, b, c, d, x) i w) (hn : n < 60) : RRt (a, b, c, d, x ||| bbit (nI n)) i (ua w 17 (60 * i + n) (b2i true)) := by
  obtain ⟨r1, r2, r3, r4, r5, r6, r7⟩ := h
  have ag : Ag [] [17] w (ua w 17 (60 * i + n) (b2i true)) := Ag_ua _ _ _ (by decide)
  refine ⟨by rw [ag.2 9 (by decide)]; exact r1, by rw [ag.2 10 (by decide)]; exact r2, fun q p hp => by rw [ag.2 11 (by decide), ag.2 12 (by decide)]; exact r3 q p hp, by rw [ag.2 13 (by decide)]; exact r4, by rw [ag.2 14 (by decide)]; exact r5, fun l hl => by rw [ag.2 15 (by decide), ag.2 16 (by decide)]; exact r6 l hl, fun k hk => ?_⟩
  rw [ua_2]
  show _ = b2i (tb (x ||| bbit (nI n)) k)
  rw [tb_set _ (by omega) (by omega)]
  by_cases e : k = n
  · subst e; rw [if_pos ⟨rfl, rfl⟩]; simp
  · rw [if_neg (by simp; omega), r7 k hk]; simp [beq_false_of_ne e]
theorem RRt_app {a : Nat} {b : List (Nat × Nat)} {c : Bool} {cr : List Nat} {x : Int64} {i n : Nat} (h : RRt (a, b, c, some cr, x) i w) : RRt (a, b, c, some (cr ++ [n]), x) i (ua (ua w 16 (60 * i + cr.length) (nI n)) 15 i (nI (cr.length + 1))) := by
  obtain ⟨r1, r2, r3, r4, r5, r6, r7⟩ := h
  have ag : Ag [] [15, 16] w (ua (ua w 16 (60 * i + cr.length) (nI n)) 15 i (nI (cr.length + 1))) := Ag_tr (Ag_ua _ _ _ (by decide)) (Ag_ua _ _ _ (by decide))
  refine ⟨by rw [ag.2 9 (by decide)]; exact r1, by rw [ag.2 10 (by decide)]; exact r2, fun q p hp => by rw [ag.2 11 (by decide), ag.2 12 (by decide)]; exact r3 q p hp, by rw [ag.2 13 (by decide)]; exact r4, by rw [ag.2 14 (by decide)]; exact r5, fun l hl => ?_, fun k hk => by rw [ag.2 17 (by decide)]; exact r7 k hk⟩
  simp only [Option.some.injEq] at hl
  subst hl
  refine ⟨by rw [ua_2, if_pos ⟨rfl, rfl⟩]; simp, fun q y hy => ?_⟩
  rw [ua_2, if_neg (by simp), ua_2]
  rw [List.getElem?_append] at hy
  split at hy
  · next hlt => rw [if_neg (by simp; omega)]; exact (r6 cr rfl).2 q y hy
  · next hge =>
    have hq : q = cr.length := by
      have := (List.getElem?_eq_some_iff.mp hy).1
      simp at this; omega
    subst hq
    simp at hy
    subst hy
    rw [if_pos ⟨rfl, rfl⟩]
theorem cw1_ok {d : Nat} {ac : List AcV} {x : Int64} {l : List Nat} (hA : AB f ac) (hl : l.Nodup) (hb : ∀ y ∈ l, y < fMd f) : ∀ k, k ≤ fMd f → AB f (cw1 f en d (ac, x, l) k).1 ∧ (cw1 f en d (ac, x, l) k).2.2.Nodup ∧ ∀ y ∈ (cw1 f en d (ac, x, l) k).2.2, y < fMd f := by
  intro k
  induction k with
  | zero => intro _; exact ⟨hA, hl, hb⟩
  | succ k ih =>
    intro hk
    obtain ⟨h1, h2, h3⟩ := ih (by omega)
    simp only [cw1]
    by_cases hcc : (!fGo f k && fPa f k == some d) = true
    · rw [if_pos hcc]
      refine ⟨?_, ?_, ?_⟩
      · show AB f (if kno f en k = true then (cw1 f en d (ac, x, l) k).1 else adA (cw1 f en d (ac, x, l) k).1 k false)
        split
        · exact h1
        · exact adA_AB h1 (by omega)
      · show (if (fFo f k && !((cw1 f en d (ac, x, l) k).2.2.any fun j => j == k)) = true then (cw1 f en d (ac, x, l) k).2.2 ++ [k] else (cw1 f en d (ac, x, l) k).2.2).Nodup
        split
        · next hc =>
          rw [List.nodup_append]
          refine ⟨h2, by simp, fun a ha b hb => ?_⟩
          simp at hb
          subst hb
          simp only [Bool.and_eq_true, Bool.not_eq_true', List.any_eq_false, beq_iff_eq] at hc
          exact fun z => hc.2 a ha z
        · exact h2
      · show ∀ y ∈ (if (fFo f k && !((cw1 f en d (ac, x, l) k).2.2.any fun j => j == k)) = true then (cw1 f en d (ac, x, l) k).2.2 ++ [k] else (cw1 f en d (ac, x, l) k).2.2), y < fMd f
        split
        · intro y hy
          rcases List.mem_append.mp hy with z | z
          · exact h3 y z
          · simp at z; omega
        · exact h3
    · rw [if_neg hcc]; exact ⟨h1, h2, h3⟩
theorem cw2_AB {x : Int64} (hA : AB f ac) (hE : ES f en) : ∀ k, AB f (cw2 en x ac k) := by
  intro k
  induction k with
  | zero => exact hA
  | succ k ih =>
    simp only [cw2]
    split
    · next hc =>
      cases hek : en k with
      | none => rw [hek] at hc; simp at hc
      | some e => exact adA_AB ih (hE k e hek).1
    · exact ih
theorem cw2_ext {x : Int64} {n m : Nat} (h : ∀ k, n ≤ k → en k = none) (hm : n ≤ m) : cw2 en x ac m = cw2 en x ac n := by
  induction m with
  | zero => have : n = 0 := by omega
            subst this; rfl
  | succ m ih =>
    by_cases e : n = m + 1
    · subst e; rfl
    · have h1 : n ≤ m := by omega
      simp only [cw2, h m h1, Option.isSome_none, Bool.false_and, Bool.false_eq_true, if_false]
      exact ih h1
theorem q_goesOn (hI : IW s rk) (hs : RA s u) {i d : Nat} {l : List Nat} {r : RtV} (hi : (zR s)[i]? = some r) (hc : r.2.2.2.1 = some (d :: l)) : ∃ v, n_X3_goesOn (mput M S u) (some M) (nI i) = some ((), mput M S v) ∧ v.1 0 = u.1 0 ∧ RA (crwl s r) v := by
  obtain ⟨A, h6, hT, hN, hB, hE, hF, hS, hF1, hE0, hW⟩ := hI
  obtain ⟨⟨hf, hr, he, ha, hsg, hw, hnn⟩, hz⟩ := hs
  have hil := (List.getElem?_eq_some_iff.mp hi).1
  have h3 := hT.1
  have i4 : i < 4 := by omega
  have hBr := hT.2 r (List.mem_of_getElem? hi)
  have hcl := hBr.cl h6 hc
  obtain ⟨-, hnd, hbd⟩ := hBr.2.2.2.2 _ hc
  have hdm : d < fMd (zF s) := hbd d List.mem_cons_self
  have hln : l.Nodup := (List.nodup_cons.mp hnd).2
  have hlb : ∀ y ∈ l, y < fMd (zF s) := fun y hy => hbd y (List.mem_cons_of_mem _ hy)
  have hll : l.length + 1 ≤ 60 := by simpa using hcl
  have hzl : fMd (zF s) < 2 ^ 31 := by omega
  obtain ⟨r1, r2, r3, r4, r5, r6', r7⟩ := hr.2 i r hi
  obtain ⟨x1, x2⟩ := r6' _ hc
  have x20 : u.2 16 (60 * i) = nI d := by simpa using x2 0 d rfl
  have x15 : u.2 15 i = nI (l.length + 1) := by simpa using x1
  have hno : ∀ k, fMd (zF s) ≤ k → zE s k = none := fun k hk => by
    cases hek : zE s k with
    | none => rfl
    | some e => have := (hE k e hek).1; omega
  have ecrw : crwl s r = cwF s r.1 (cwZ s r l d) := by unfold crwl; rw [hc]
  rw [ecrw]
  -- the end of it: what is left of the crawl
  have fin : ∀ (t : List AcV × Int64 × List Nat) (w : MM), Ag [30] [15, 16, 17, 24, 25, 26] u w → Row i u w → RRt (r.1, r.2.1, r.2.2.1, some t.2.2, t.2.1) i w → RMa t.1 w → AB (zF s) t.1 → t.2.2.length ≤ 60 → ∃ v, n_X3_goesOn_b201 (mput M S w) (some M) (nI i) = some ((), mput M S v) ∧ v.1 0 = u.1 0 ∧ RA (cwF s r.1 t) v := by
    intro t w g1 g2 g3 g4 g5 g6
    obtain ⟨q1, q2, q3, q4, q5, q6, q7⟩ := g3
    have hw15 : w.2 15 i = nI t.2.2.length := (q6 _ rfl).1
    simp only [n_X3_goesOn_b201, mR_19, ob_s, ma_15 i4, hw15, nI_eq0 (show t.2.2.length < 2 ^ 31 by omega)]
    cases hcr : t.2.2 with
    | cons y ys =>
      have e0 : cwF s r.1 t = wA (wR s (updR (zR s) r.1 fun r => (r.1, r.2.1, r.2.2.1, some t.2.2, t.2.1))) t.1 := by simp [cwF, hcr]
      rw [e0]
      refine ⟨w, by simp, (by rw [g1.1 0 (by decide)]), ⟨hf.ag g1, ?_, he.ag g1, g4, hsg.ag g1, hw.ag g1, hnn.ag g1⟩, hz.ag g1⟩
      show RMr (updR (zR s) r.1 fun r => (r.1, r.2.1, r.2.2.1, some t.2.2, t.2.1)) w
      rw [updR_set hN.1 hi]
      exact RMr_row hr hT h6 hil g2 ⟨q1, q2, q3, q4, q5, q6, q7⟩
    | nil =>
      have e0 : cwF s r.1 t = wA (wR s (updR (zR s) r.1 fun r => (r.1, r.2.1, r.2.2.1, none, t.2.1))) (cw2 (zE s) t.2.1 t.1 60) := by simp [cwF, hcr]
      rw [e0, cw2_ext hno h6]
      obtain ⟨w1, z1⟩ : ∃ x, x = ua w 14 i (b2i false) := ⟨_, rfl⟩
      have t1 := ms_14 (M := M) (S := S) (u := w) false i4
      rw [← z1] at t1
      have a1 : Ag [30] [14, 15, 16, 17, 24, 25, 26] u w1 := by rw [z1]; exact Ag_tr (Ag_up g1 (by decide) (by decide)) (Ag_ua _ _ _ (by decide))
      have row1 : Row i u w1 := by rw [z1]; exact Row_tr g2 (Row_one _ (by decide))
      have aw : Ag [] [14] w w1 := by rw [z1]; exact Ag_ua _ _ _ (by decide)
      have key := lp_st (fun m k (v : MM) => n_X3_goesOn_b219 m (mput M S v) (some M) (nI i) (nI k)) (fun v => some ((), mput M S v)) (fun k v => Ag [30] [24, 25, 26] w1 v ∧ RMa (cw2 (zE s) t.2.1 t.1 k) v) (fun v => Ag [30] [24, 25, 26] w1 v ∧ RMa (cw2 (zE s) t.2.1 t.1 (fMd (zF s))) v) (fMd (zF s)) ?_ ?_ FU 0 w1 (Nat.zero_le _) (by simp only [FU]; omega) ⟨Ag_rf _ _ _, g4.ag aw⟩
      · obtain ⟨v, ⟨b1, b2⟩, b3⟩ := key
        rw [nI_0] at b3
        have a2 : Ag [30] [14, 15, 16, 17, 24, 25, 26] u v := Ag_tr a1 (Ag_up b1 (by decide) (by decide))
        have row2 : Row i u v := Row_tr row1 (Row_ag b1)
        refine ⟨v, ?_, (by rw [a2.1 0 (by decide)]), ⟨hf.ag a2, ?_, he.ag a2, b2, hsg.ag a2, hw.ag a2, hnn.ag a2⟩, hz.ag a2⟩
        · simp only [List.length_nil, if_true, mR_18, ob_s]
          rw [show (0 : Int32) = b2i false from rfl, t1]
          simp only [ob_s]
          exact b3
        · show RMr (updR (zR s) r.1 fun r => (r.1, r.2.1, r.2.2.1, none, t.2.1)) v
          rw [updR_set hN.1 hi]
          refine RMr_row hr hT h6 hil row2 ⟨?_, ?_, fun q p hp => ?_, ?_, ?_, fun l hl => by simp at hl, fun n hn => ?_⟩
          · rw [b1.2 9 (by decide), aw.2 9 (by decide)]; exact q1
          · rw [b1.2 10 (by decide), aw.2 10 (by decide)]; exact q2
          · rw [b1.2 11 (by decide), aw.2 11 (by decide), b1.2 12 (by decide), aw.2 12 (by decide)]; exact q3 q p hp
          · rw [b1.2 13 (by decide), aw.2 13 (by decide)]; exact q4
          · rw [b1.2 14 (by decide), z1, ua_2, if_pos ⟨rfl, rfl⟩]; rfl
          · rw [b1.2 17 (by decide), aw.2 17 (by decide)]; exact q7 n hn
      · intro m k v hk ⟨b1, b2⟩
        have k60 : k < 60 := by omega
        have hev : RMe (zF s) (zE s) v := (he.ag a1).ag b1
        have hfv : RMf (zF s) v := (hf.ag a1).ag b1
        have hm17 : v.2 17 (60 * i + k) = b2i (tb t.2.1 k) := by rw [b1.2 17 (by decide), aw.2 17 (by decide)]; exact q7 k k60
        have h256 : ∀ x : MM, n_X3_goesOn_b256 (n_X3_goesOn_b219 m) (mput M S x) (some M) (nI i) (nI k) = n_X3_goesOn_b219 m (mput M S x) (some M) (nI i) (nI (k + 1)) := fun x => by simp only [n_X3_goesOn_b256, nI_1]
        simp only [n_X3_goesOn_b219, mI_2, ob_s, hfv.1, nI_leE hzl (show k < 2 ^ 31 by omega), mR_22, ma_18 k60, (hev k k60).1, b2i_0, mR_21, li_60, nI_mul, nI_add, ma_17 (show 60 * i + k < 240 by omega), hm17, mg_c, gd_t, h256]
        rw [if_neg (by omega)]
        simp only [cw2]
        rcases Bool.eq_false_or_eq_true (zE s k).isSome with c1 | c1
        · rcases Bool.eq_false_or_eq_true (tb t.2.1 k) with c2 | c2
          · exact ⟨v, ⟨b1, by simpa [c1, c2] using b2⟩, by simp [c1, c2]⟩
          · obtain ⟨v2, e1, e2, e3⟩ := q_adds (M := M) (S := S) b2 (cw2_AB g5 hE k) h6 hk false
            have e1' : n_X3_adds (mput M S v) (some M) (nI k) 1 = some ((), mput M S v2) := e1
            exact ⟨v2, ⟨Ag_tr b1 e2, by simpa [c1, c2] using e3⟩, by simp [c1, c2, e1', bn_s, h256]⟩
        · exact ⟨v, ⟨b1, by simpa [c1] using b2⟩, by simp [c1]⟩
      · intro m v hv
        refine ⟨v, hv, ?_⟩
        simp only [n_X3_goesOn_b219, mI_2, ob_s, ((hf.ag a1).ag hv.1).1, nI_leE hzl hzl, Nat.le_refl, if_true]
  -- the children
  have kids : ∀ (w : MM), Ag [30] [15, 16, 17, 24, 25, 26] u w → Row i u w → RRt (r.1, r.2.1, r.2.2.1, some l, r.2.2.2.2) i w → RMa (zA s) w → ∃ v, n_X3_goesOn_b95 (mput M S w) (some M) (nI i) (nI d) = some ((), mput M S v) ∧ v.1 0 = u.1 0 ∧ RA (cwF s r.1 (cw1 (zF s) (zE s) d (zA s, r.2.2.2.2, l) (fMd (zF s)))) v := by
    intro w g1 g2 g3 g4
    obtain ⟨T, eT⟩ : ∃ T, T = cw1 (zF s) (zE s) d (zA s, r.2.2.2.2, l) := ⟨_, rfl⟩
    have hTk : ∀ k, k ≤ fMd (zF s) → AB (zF s) (T k).1 ∧ (T k).2.2.Nodup ∧ ∀ y ∈ (T k).2.2, y < fMd (zF s) := fun k hk => by rw [eT]; exact cw1_ok hB hln hlb k hk
    have hTl : ∀ k, k ≤ fMd (zF s) → (T k).2.2.length ≤ 60 := fun k hk => Nat.le_trans (nd_len _ _ (hTk k hk).2.1 (hTk k hk).2.2) h6
    rw [← eT]
    have key := lp_ex (fun m k (v : MM) => n_X3_goesOn_b97 m (mput M S v) (some M) (nI i) (nI d) (nI k)) (fun k v => Ag [30] [15, 16, 17, 24, 25, 26] u v ∧ Row i u v ∧ RRt (r.1, r.2.1, r.2.2.1, some (T k).2.2, (T k).2.1) i v ∧ RMa (T k).1 v) (fun b => ∃ v, b = ((), mput M S v) ∧ v.1 0 = u.1 0 ∧ RA (cwF s r.1 (T (fMd (zF s)))) v) (fMd (zF s)) ?_ ?_ FU 0 w (Nat.zero_le _) (by simp only [FU]; omega) ⟨g1, g2, by rw [eT]; exact g3, by rw [eT]; exact g4⟩
    · obtain ⟨b, k1, v, rfl, k2⟩ := key
      rw [nI_0] at k1
      exact ⟨v, k1, k2⟩
    · intro m k v hk ⟨b1, b2, b3, b4⟩
      refine Or.inl ?_
      have k60 : k < 60 := by omega
      have hfv := hf.ag b1
      have hev := he.ag b1
      obtain ⟨hA1, hA2, hA3⟩ := hTk k (by omega)
      have hq : ∀ q, fPa (zF s) k = some q → q < 2 ^ 31 := fun q hq => by have := ((A k hk).2 q hq).1; omega
      have eS : T (k + 1) = if !fGo (zF s) k && fPa (zF s) k == some d then (if kno (zF s) (zE s) k then (T k).1 else adA (T k).1 k false, (T k).2.1 ||| bbit (nI k), if fFo (zF s) k && !((T k).2.2.any fun j => j == k) then (T k).2.2 ++ [k] else (T k).2.2) else T k := by rw [eT]; rfl
      have h195 : ∀ x : MM, n_X3_goesOn_b195 (n_X3_goesOn_b97 m) (mput M S x) (some M) (nI i) (nI d) (nI k) = n_X3_goesOn_b97 m (mput M S x) (some M) (nI i) (nI d) (nI (k + 1)) := fun x => by simp only [n_X3_goesOn_b195, nI_1]
      by_cases hch : fGo (zF s) k = false ∧ fPa (zF s) k = some d
      · have eS' : T (k + 1) = (if kno (zF s) (zE s) k then (T k).1 else adA (T k).1 k false, (T k).2.1 ||| bbit (nI k), if fFo (zF s) k && !((T k).2.2.any fun j => j == k) then (T k).2.2 ++ [k] else (T k).2.2) := by rw [eS, if_pos (by simp [hch.1, hch.2])]
        obtain ⟨v1, z1⟩ : ∃ x, x = ua v 17 (60 * i + k) (b2i true) := ⟨_, rfl⟩
        have t1 := ms_17 (M := M) (S := S) (u := v) (i := 60 * i + k) true (by omega)
        rw [← z1] at t1
        have a1 : Ag [30] [15, 16, 17, 24, 25, 26] u v1 := by rw [z1]; exact Ag_tr b1 (Ag_ua _ _ _ (by decide))
        have row1 : Row i u v1 := by rw [z1]; exact Row_tr b2 (Row_60 _ (by decide) k60)
        have rr1 : RRt (r.1, r.2.1, r.2.2.1, some (T k).2.2, (T k).2.1 ||| bbit (nI k)) i v1 := by rw [z1]; exact RRt_met b3 k60
        have ra1 : RMa (T k).1 v1 := by rw [z1]; exact b4.ag (Ag_ua (I := []) (P := [17]) _ _ _ (by decide))
        -- the act
        have act : ∃ v2, Ag [30] [24, 25, 26] v1 v2 ∧ RMa (if kno (zF s) (zE s) k then (T k).1 else adA (T k).1 k false) v2 ∧ (if kno (zF s) (zE s) k = false then bn (n_X3_adds (mput M S v1) (some M) (nI k) 1) fun _ S10 => n_X3_goesOn_b150 (n_X3_goesOn_b97 m) S10 (some M) (nI i) (nI d) (nI k) else n_X3_goesOn_b150 (n_X3_goesOn_b97 m) (mput M S v1) (some M) (nI i) (nI d) (nI k)) = n_X3_goesOn_b150 (n_X3_goesOn_b97 m) (mput M S v2) (some M) (nI i) (nI d) (nI k) := by
          rcases Bool.eq_false_or_eq_true (kno (zF s) (zE s) k) with c1 | c1
          · exact ⟨v1, Ag_rf _ _ _, by simpa [c1] using ra1, by simp [c1]⟩
          · obtain ⟨v2, e1, e2, e3⟩ := q_adds (M := M) (S := S) ra1 hA1 h6 hk false
            have e1' : n_X3_adds (mput M S v1) (some M) (nI k) 1 = some ((), mput M S v2) := e1
            exact ⟨v2, e2, by simpa [c1] using e3, by simp [c1, e1', bn_s]⟩
        obtain ⟨v2, d1, d2, d3⟩ := act
        have a2 : Ag [30] [15, 16, 17, 24, 25, 26] u v2 := Ag_tr a1 (Ag_up d1 (by decide) (by decide))
        have row2 : Row i u v2 := Row_tr row1 (Row_ag d1)
        have rr2 := rr1.ag d1
        have hstart : n_X3_goesOn_b97 (m + 1) (mput M S v) (some M) (nI i) (nI d) (nI k) = n_X3_goesOn_b150 (n_X3_goesOn_b97 m) (mput M S v2) (some M) (nI i) (nI d) (nI k) := by
          rw [← d3]
          simp only [n_X3_goesOn_b97, mI_2, ob_s, hfv.1, nI_leE hzl (show k < 2 ^ 31 by omega), mR_3, ma_0 k60, hfv.go hk, b2i_0, mR_5, ma_2 k60, hfv.pa hk, prI_eq (show d < 2 ^ 31 by omega) hq, hch.1, hch.2, Bool.not_false, Bool.true_eq_false, if_false, if_true, mR_21, li_60, nI_mul, nI_add]
          rw [if_neg (by omega), show (1 : Int32) = b2i true from rfl, t1]
          simp only [ob_s, mg_c, gd_t, q_isKnown (hf.ag a1) A h6 (he.ag a1) hE hF hk, bn_s, b2i_0, prI_s, if_true]
        have hwl := (rr2.2.2.2.2.2.1 _ rfl)
        have hwt := q_isWaiting (M := M) (S := S) (u := v2) (n := k) i4 hwl.1 hwl.2 (hTl k (by omega)) (fun y hy => by have := hA3 y hy; omega) k60
        have hb150 : n_X3_goesOn_b150 (n_X3_goesOn_b97 m) (mput M S v2) (some M) (nI i) (nI d) (nI k) = if fFo (zF s) k = true ∧ ((T k).2.2.any fun j => j == k) = false then n_X3_goesOn_b97 m (mput M S (ua (ua v2 16 (60 * i + (T k).2.2.length) (nI k)) 15 i (nI ((T k).2.2.length + 1)))) (some M) (nI i) (nI d) (nI (k + 1)) else n_X3_goesOn_b97 m (mput M S v2) (some M) (nI i) (nI d) (nI (k + 1)) := by
          simp only [n_X3_goesOn_b150, mR_4, ob_s, ma_1 k60, (hf.ag a2).fo hk, b2i_0, h195, mg_c, gd_t, hwt, bn_s]
          rcases Bool.eq_false_or_eq_true (fFo (zF s) k) with c1 | c1
          · rcases Bool.eq_false_or_eq_true ((T k).2.2.any fun j => j == k) with c2 | c2
            · simp [c1, c2]
            · have hlt : (T k).2.2.length < 60 := by
                have hnd2 : ((T k).2.2 ++ [k]).Nodup := by
                  rw [List.nodup_append]
                  refine ⟨hA2, by simp, fun a ha b hb => ?_⟩
                  simp at hb
                  subst hb
                  have := List.any_eq_false.mp c2 a ha
                  simpa using this
                have := nd_len _ _ hnd2 (fun y hy => by
                  rcases List.mem_append.mp hy with z | z
                  · exact hA3 y z
                  · simp at z; omega)
                simp at this; omega
              have s1 := ms_16 (M := M) (S := S) (u := v2) (i := 60 * i + (T k).2.2.length) (x := nI k) (by omega)
              have s2 := ms_15 (M := M) (S := S) (u := ua v2 16 (60 * i + (T k).2.2.length) (nI k)) (x := nI ((T k).2.2.length + 1)) i4
              have e15 : (ua v2 16 (60 * i + (T k).2.2.length) (nI k)).2 15 i = nI (T k).2.2.length := by rw [ua_2, if_neg (by simp)]; exact hwl.1
              simp only [c1, c2, Bool.true_eq_false, if_false, if_true, mR_20, mR_19, ob_s, ma_15 i4, hwl.1, li_60, nI_mul, nI_add, s1, e15, nI_1, s2, h195, and_self]
          · simp [c1]
        by_cases c3 : fFo (zF s) k = true ∧ ((T k).2.2.any fun j => j == k) = false
        · refine ⟨ua (ua v2 16 (60 * i + (T k).2.2.length) (nI k)) 15 i (nI ((T k).2.2.length + 1)), ⟨Ag_tr a2 (Ag_tr (Ag_ua _ _ _ (by decide)) (Ag_ua _ _ _ (by decide))), ?_, ?_, ?_⟩, by rw [hstart, hb150, if_pos c3]⟩
          · have hlt : (T k).2.2.length < 60 := by
              have hnd2 : ((T k).2.2 ++ [k]).Nodup := by
                rw [List.nodup_append]
                refine ⟨hA2, by simp, fun a ha b hb => ?_⟩
                simp at hb
                subst hb
                have := List.any_eq_false.mp c3.2 a ha
                simpa using this
              have := nd_len _ _ hnd2 (fun y hy => by
                rcases List.mem_append.mp hy with z | z
                · exact hA3 y z
                · simp at z; omega)
              simp at this; omega
            exact Row_tr row2 (Row_tr (Row_60 _ (by decide) hlt) (Row_one _ (by decide)))
          · rw [eS']
            show RRt (r.1, r.2.1, r.2.2.1, some (if (fFo (zF s) k && !((T k).2.2.any fun j => j == k)) = true then (T k).2.2 ++ [k] else (T k).2.2), (T k).2.1 ||| bbit (nI k)) i _
            rw [if_pos (show (fFo (zF s) k && !((T k).2.2.any fun j => j == k)) = true by rw [c3.1, c3.2]; rfl)]
            exact RRt_app rr2
          · rw [eS']; exact d2.ag (Ag_tr (Ag_ua (I := []) (P := [15, 16]) _ _ _ (by decide)) (Ag_ua _ _ _ (by decide)))
        · refine ⟨v2, ⟨a2, row2, ?_, by rw [eS']; exact d2⟩, by rw [hstart, hb150, if_neg c3]⟩
          rw [eS']
          show RRt (r.1, r.2.1, r.2.2.1, some (if (fFo (zF s) k && !((T k).2.2.any fun j => j == k)) = true then (T k).2.2 ++ [k] else (T k).2.2), (T k).2.1 ||| bbit (nI k)) i _
          rw [if_neg (show ¬ (fFo (zF s) k && !((T k).2.2.any fun j => j == k)) = true from fun z => c3 (by simpa using z))]
          exact rr2
      · have eS' : T (k + 1) = T k := by
          rw [eS, if_neg]
          intro z
          simp only [Bool.and_eq_true, Bool.not_eq_true', beq_iff_eq] at z
          exact hch z
        refine ⟨v, by rw [eS']; exact ⟨b1, b2, b3, b4⟩, ?_⟩
        simp only [n_X3_goesOn_b97, mI_2, ob_s, hfv.1, nI_leE hzl (show k < 2 ^ 31 by omega), mR_3, ma_0 k60, hfv.go hk, b2i_0, mR_5, ma_2 k60, hfv.pa hk, prI_eq (show d < 2 ^ 31 by omega) hq, h195]
        rw [if_neg (by omega)]
        rcases Bool.eq_false_or_eq_true (fGo (zF s) k) with c1 | c1
        · simp [c1]
        · have c2 : ¬ fPa (zF s) k = some d := fun z => hch ⟨c1, z⟩
          simp [c1, c2]
    · intro m v ⟨b1, b2, b3, b4⟩
      obtain ⟨v2, e1, e2⟩ := fin (T (fMd (zF s))) v b1 b2 b3 b4 (hTk _ (Nat.le_refl _)).1 (hTl _ (Nat.le_refl _))
      refine ⟨_, ?_, v2, rfl, e2⟩
      simp only [n_X3_goesOn_b97, mI_2, ob_s, (hf.ag b1).1, nI_leE hzl hzl, Nat.le_refl, if_true]
      exact e1
  -- the first folder goes
  obtain ⟨v1, z1⟩ : ∃ x, x = ua u 15 i (nI l.length) := ⟨_, rfl⟩
  have t1 := ms_15 (M := M) (S := S) (u := u) (x := nI l.length) i4
  rw [← z1] at t1
  have h15 : v1.2 15 i = nI l.length := by rw [z1, ua_2, if_pos ⟨rfl, rfl⟩]
  have main := lp_ex (fun m k (v : MM) => n_X3_goesOn_b22 m (mput M S v) (some M) (nI i) (nI d) (nI k)) (fun k v => Ag [] [16] v1 v ∧ Row i u v ∧ Sh 16 1 (60 * i) (60 * i + k) v1 v) (fun b => ∃ v, b = ((), mput M S v) ∧ v.1 0 = u.1 0 ∧ RA (cwF s r.1 (cwZ s r l d)) v) l.length ?_ ?_ FU 0 v1 (Nat.zero_le _) (by simp only [FU]; omega) ⟨Ag_rf _ _ _, by rw [z1]; exact Row_one _ (by decide), Sh_rf 16 1 (60 * i) v1⟩
  · obtain ⟨b, k1, v, rfl, k2⟩ := main
    rw [nI_0] at k1
    refine ⟨v, ?_, k2⟩
    simp only [n_X3_goesOn, mR_20, mR_19, ob_s, li_60, nI_mul, ma_16 (show 60 * i < 240 by omega), x20, ma_15 i4, x15, nI_pred, t1, k1]
  · intro m k v hk ⟨g1, g2, g3⟩
    refine Or.inl ⟨ua v 16 (60 * i + k) (v.2 16 (60 * i + k + 1)), ⟨Ag_tr g1 (Ag_ua _ _ _ (by decide)), Row_tr g2 (Row_60 _ (by decide) (by omega)), Sh_st (k := 60 * i + k) g3 (by omega) (by decide)⟩, ?_⟩
    have t2 := ms_16 (M := M) (S := S) (u := v) (i := 60 * i + k) (x := v.2 16 (60 * i + k + 1)) (by omega)
    simp only [n_X3_goesOn_b22, mR_19, ob_s, ma_15 i4, g1.2 15 (by decide), h15, nI_leE (show l.length < 2 ^ 31 by omega) (show k < 2 ^ 31 by omega), mR_20, li_60, nI_mul, nI_add, nI_1, ma_16 (show 60 * i + k + 1 < 240 by omega), t2]
    rw [if_neg (by omega)]
  · intro m v ⟨g1, g2, g3⟩
    have a1 : Ag [30] [15, 16, 17, 24, 25, 26] u v := by
      refine Ag_tr ?_ (Ag_up g1 (by decide) (by decide))
      rw [z1]; exact Ag_ua _ _ _ (by decide)
    have au : Ag [] [15, 16] u v := by
      refine Ag_tr ?_ (Ag_up g1 (by decide) (by decide))
      rw [z1]; exact Ag_ua _ _ _ (by decide)
    have rr : RRt (r.1, r.2.1, r.2.2.1, some l, r.2.2.2.2) i v := by
      refine ⟨by rw [au.2 9 (by decide)]; exact r1, by rw [au.2 10 (by decide)]; exact r2, fun q p hp => by rw [au.2 11 (by decide), au.2 12 (by decide)]; exact r3 q p hp, by rw [au.2 13 (by decide)]; exact r4, by rw [au.2 14 (by decide), r5, hc]; rfl, fun l' hl => ?_, fun k hk => by rw [au.2 17 (by decide)]; exact r7 k hk⟩
      simp only [Option.some.injEq] at hl
      subst hl
      refine ⟨by rw [g1.2 15 (by decide)]; exact h15, fun q y hy => ?_⟩
      have hq := (List.getElem?_eq_some_iff.mp hy).1
      rw [Sh_mi g3 (by omega) (by omega), z1, ua_2, if_neg (by simp)]
      exact x2 (q + 1) y (by simpa using hy)
    have ra : RMa (zA s) v := ha.ag au
    have d60 : d < 60 := by omega
    have r60 : r.1 < 60 := by have := hBr.1; omega
    have h9 : v.2 9 i = nI r.1 := rr.1
    have hfv := hf.ag a1
    simp only [n_X3_goesOn_b22, mR_19, ob_s, ma_15 i4, g1.2 15 (by decide), h15, nI_leE (show l.length < 2 ^ 31 by omega) (show l.length < 2 ^ 31 by omega), Nat.le_refl, if_true, mR_3, ma_0 d60, hfv.go hdm, b2i_0, mR_13, ma_9 i4, h9, nI_eqE (show d < 2 ^ 31 by omega) (show r.1 < 2 ^ 31 by omega), mg_c, gd_t, q_isBelow hfv A h6 hdm r60, bn_s]
    obtain ⟨vk, kk1, kk2⟩ := kids v a1 g2 rr ra
    obtain ⟨vf, ff1, ff2⟩ := fin (zA s, r.2.2.2.2, l) v a1 g2 rr ra hB (by show l.length ≤ 60; omega)
    by_cases c : (!fGo (zF s) d && hasA (zF s) r.1 d) = true
    · have ez : cwZ s r l d = cw1 (zF s) (zE s) d (zA s, r.2.2.2.2, l) (fMd (zF s)) := by unfold cwZ; rw [if_pos c]
      rw [ez]
      refine ⟨_, ?_, vk, rfl, kk2⟩
      simp only [Bool.and_eq_true, Bool.not_eq_true', hasA, Bool.or_eq_true, beq_iff_eq] at c
      rw [if_neg (by rw [c.1]; decide)]
      by_cases e : d = r.1
      · rw [if_pos e]; exact kk1
      · rw [if_neg e]
        have c2 : blw (zF s) d r.1 = true := by rcases c.2 with z | z; exact absurd z e; exact z
        rw [if_neg (by rw [c2]; decide)]; exact kk1
    · have ez : cwZ s r l d = (zA s, r.2.2.2.2, l) := by unfold cwZ; rw [if_neg c]
      rw [ez]
      refine ⟨_, ?_, vf, rfl, ff2⟩
      rw [ff1]
      rcases Bool.eq_false_or_eq_true (fGo (zF s) d) with c1 | c1
      · simp [c1]
      · have c2 : ¬ d = r.1 := fun z => c (by
          have z2 : (d == r.1) = true := by simpa using z
          simp only [c1, hasA, z2, Bool.not_false, Bool.true_or, Bool.and_self])
        have c3 : blw (zF s) d r.1 = false := by
          cases hq : blw (zF s) d r.1 with
          | false => rfl
          | true => exact absurd (by simp [c1, hasA, hq]) c
        simp [c1, c2, c3]
end
