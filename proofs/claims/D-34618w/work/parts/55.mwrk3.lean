/-! the reference's work: bits, entries that go, entries that are read -/
section
variable {M : Nat} {S : St} {u v w : MM} {f f' : Fl} {rs rs' : List RtV} {en : En} {ac : List AcV} {s : Sg} {rk rk' : Nat → Nat}
theorem tb_n {n k : Nat} (hn : n < 2 ^ 64) (hk : k < 64) : tb (lN n) k = n.testBit k := by
  have := bbit_and hn hk
  unfold tb
  cases h : n.testBit k with
  | false => simp [this.mpr h]
  | true =>
    have hne : ¬ lN n &&& bbit (nI k) = 0 := fun z => by rw [this.mp z] at h; cases h
    simp [hne]
theorem tb_set (x : Int64) {k j : Nat} (hk : k < 64) (hj : j < 64) : tb (x ||| bbit (nI k)) j = (tb x j || j == k) := by
  obtain ⟨n, hn, rfl⟩ := wb_of x
  have h2 : 2 ^ k < 2 ^ 64 := wb_lt2 hk
  rw [bbit_e hk, wb_or hn h2, tb_n (Nat.or_lt_two_pow hn h2) hj, tb_n hn hj, Nat.testBit_or, Nat.testBit_two_pow]
  by_cases e : k = j
  · simp [e]
  · simp [e, beq_false_of_ne (fun z => e z.symm)]
theorem tb_0 (k : Nat) : tb 0 k = false := by simp [tb]
def killX (P : List (Nat × Nat × Bool)) (D : Nat → Bool) : List (Nat × Nat × Bool) := P.map fun p => (p.1, p.2.1, p.2.2 || D p.2.1)
theorem plF_kil (D : Nat → Bool) : ∀ (sg : List SgV) (j : Nat), plF (kilS sg D) j = killX (plF sg j) D := by
  intro sg
  induction sg with
  | nil => intro j; rfl
  | cons a t ih =>
    intro j
    have := ih (j + 1)
    unfold kilS killX at this ⊢
    simp only [List.map_cons, plF, List.map_append, List.map_map, this]
    rfl
theorem plF_mem {p : Nat × Nat × Bool} : ∀ (sg : List SgV) (j : Nat), p ∈ plF sg j → ∃ g ∈ sg, p.2 ∈ g.2 := by
  intro sg
  induction sg with
  | nil => intro j h; cases h
  | cons a t ih =>
    intro j h
    rcases List.mem_append.mp h with h | h
    · obtain ⟨q, hq, rfl⟩ := List.mem_map.mp h
      exact ⟨a, List.mem_cons_self, hq⟩
    · obtain ⟨g, hg, hp⟩ := ih (j + 1) h
      exact ⟨g, List.mem_cons_of_mem _ hg, hp⟩
theorem plF_len (sg : List SgV) {c n : Nat} (hl : sg.length ≤ c) (hs : ∀ g ∈ sg, g.2.length ≤ n) : ∀ j, (plF sg j).length ≤ c * n := by
  induction sg generalizing c with
  | nil => intro j; exact Nat.zero_le _
  | cons a t ih =>
    intro j
    obtain ⟨c', rfl⟩ : ∃ c', c = c' + 1 := ⟨c - 1, by simp at hl; omega⟩
    have h1 := ih (c := c') (by simpa using hl) (fun g hg => hs g (List.mem_cons_of_mem _ hg)) (j + 1)
    have h2 := hs a List.mem_cons_self
    simp only [plF, List.length_append, List.length_map]
    rw [Nat.add_mul]; omega
/-- the index as it can be -/
def SS (f : Fl) (en : En) (sg : List SgV) : Prop := sg.length ≤ 4 ∧ ∀ g ∈ sg, (g.2.map (·.1)).Nodup ∧ ∀ p ∈ g.2, p.1 < fMd f ∧ fFo f p.1 = false ∧ (p.2 = false → (en p.1).isSome = true)
theorem SS.len {sg : List SgV} (h : SS f en sg) (h6 : fMd f ≤ 60) (j : Nat) : (plF sg j).length ≤ 240 := by
  refine plF_len sg (c := 4) (n := 60) h.1 (fun g hg => ?_) j
  have := nd_len _ _ (h.2 g hg).1 (fun x hx => by
    obtain ⟨p, hp, rfl⟩ := List.mem_map.mp hx
    exact ((h.2 g hg).2 p hp).1)
  rw [List.length_map] at this; omega
theorem SS.bd {sg : List SgV} (h : SS f en sg) (j : Nat) : ∀ p ∈ plF sg j, p.2.1 < fMd f ∧ fFo f p.2.1 = false ∧ (p.2.2 = false → (en p.2.1).isSome = true) := fun p hp => by
  obtain ⟨g, hg, hq⟩ := plF_mem sg j hp
  exact (h.2 g hg).2 p.2 hq
theorem pnd_bd {P : List (Nat × Nat × Bool)} {x : Int64} {n : Nat} (h : ∀ p ∈ P, p.2.1 < n) : ∀ p ∈ pnd en x P, p.2.1 < n := fun p hp => by
  obtain ⟨q, hq, rfl⟩ := List.mem_map.mp hp
  exact h q hq
theorem q_forgets {sg : List SgV} {x : Int64} (hf : RMf f u) (hr : RMr rs u) (hT : RT f rs) (he : RMe f en u) (hE : ES f en) (hs : RMs en x sg u) (hw : RMw en x u) (hS : SS f en sg) (h6 : fMd f ≤ 60) {n : Nat} (hn : n < fMd f) : ∃ v, n_X3_forgets (mput M S u) (some M) (nI n) = some ((), mput M S v) ∧ Ag [] [18, 29, 30, 31] u v ∧ RMe f (drE en (drS rs en n)) v ∧ RMs (drE en (drS rs en n)) x (kilS sg (drS rs en n)) v ∧ RMw (drE en (drS rs en n)) x v := by
  have hz : fMd f < 2 ^ 31 := by omega
  have n60 : n < 60 := by omega
  obtain ⟨Lv, eL⟩ : ∃ Lv : Nat → Bool, Lv = fun k => k == n || !isR rs n && knb rs en k n := ⟨_, rfl⟩
  have hD : ∀ k, drS rs en n k = ((en k).isSome && Lv k) := fun k => by rw [eL]; rfl
  have hno : ∀ k, fMd f ≤ k → en k = none := fun k hk => by
    cases hek : en k with
    | none => rfl
    | some e => have := (hE k e hek).1; omega
  -- first: who leaves
  have k1 : ∃ v2, (Ag [] [31] u v2 ∧ ∀ j, j < fMd f → v2.2 31 j = b2i (Lv j)) ∧ n_X3_forgets_b2 FU (mput M S u) (some M) (nI n) (nI 0) = n_X3_forgets_b52 FU (mput M S v2) (some M) 0 := by
    refine lp_st (fun m k (v : MM) => n_X3_forgets_b2 m (mput M S v) (some M) (nI n) (nI k)) (fun v => n_X3_forgets_b52 FU (mput M S v) (some M) 0) (fun k v => Ag [] [31] u v ∧ ∀ j, j < k → v.2 31 j = b2i (Lv j)) _ (fMd f) ?_ ?_ FU 0 u (Nat.zero_le _) (by simp only [FU]; omega) ⟨Ag_rf _ _ _, fun j hj => by omega⟩
    · intro m k v hk ⟨g1, g2⟩
      have k60 : k < 60 := by omega
      have t := ms_31 (M := M) (S := S) (u := v) (Lv k) k60
      refine ⟨ua v 31 k (b2i (Lv k)), ⟨Ag_tr g1 (Ag_ua _ _ _ (by decide)), fun j hj => ?_⟩, ?_⟩
      · rw [ua_2]
        by_cases e : j = k
        · subst e; rw [if_pos ⟨rfl, rfl⟩]
        · rw [if_neg (by simp [e])]; exact g2 j (by omega)
      · have f43 : n_X3_forgets_b43 (n_X3_forgets_b2 m) (mput M S v) (some M) (nI n) (nI k) (b2i (Lv k)) (nI k) (some (adr M 31)) = n_X3_forgets_b2 m (mput M S (ua v 31 k (b2i (Lv k)))) (some M) (nI n) (nI (k + 1)) := by
          simp only [n_X3_forgets_b43, t, ob_s, nI_1]
        have c38 : n_X3_forgets_b38 (n_X3_forgets_b2 m) (mput M S v) (some M) (nI n) (nI k) (nI k) (some (adr M 31)) = n_X3_forgets_b43 (n_X3_forgets_b2 m) (mput M S v) (some M) (nI n) (nI k) (b2i true) (nI k) (some (adr M 31)) := rfl
        have c42 : n_X3_forgets_b42 (n_X3_forgets_b2 m) (mput M S v) (some M) (nI n) (nI k) (nI k) (some (adr M 31)) = n_X3_forgets_b43 (n_X3_forgets_b2 m) (mput M S v) (some M) (nI n) (nI k) (b2i false) (nI k) (some (adr M 31)) := rfl
        have e3 : (prI (lst (fun r : RtV => r.1 == n) rs rs.length) = -1) = (isR rs n = false) := (prI_none (fun a ha => by have := lst_lt ha; have := hT.1; omega)).trans (lst_isR n)
        simp only [n_X3_forgets_b2, mI_2, ob_s, (hf.ag g1).1, nI_leE hz (show k < 2 ^ 31 by omega), mR_43, nI_eqE (show k < 2 ^ 31 by omega) (show n < 2 ^ 31 by omega), mg_c, gd_t, q_rootAt (hr.ag g1) hT.toS h6 n60, bn_s, q_liesBelow (hr.ag g1) hT (he.ag g1) hE h6 hk n60, b2i_0, c38, c42, e3]
        rw [if_neg (by omega), ← f43, eL]
        by_cases e : k = n
        · simp [e]
        · rcases Bool.eq_false_or_eq_true (isR rs n) with b1 | b1
          · simp [e, b1, beq_false_of_ne e]
          · rcases Bool.eq_false_or_eq_true (knb rs en k n) with b2 | b2 <;> simp [e, b1, b2, beq_false_of_ne e]
    · intro m v ⟨g1, g2⟩
      refine ⟨v, ⟨g1, g2⟩, ?_⟩
      simp only [n_X3_forgets_b2, mI_2, ob_s, (hf.ag g1).1, nI_leE hz hz, Nat.le_refl, if_true]
  obtain ⟨v2, ⟨g1, g2⟩, k1⟩ := k1
  obtain ⟨P0, eP⟩ : ∃ P0, P0 = pnd en x (plF sg 0) := ⟨_, rfl⟩
  have hP6 : P0.length ≤ 600 := by rw [eP]; simp only [pnd, List.length_map]; have := hS.len h6 0; omega
  have hPb : ∀ p ∈ P0, p.2.1 < fMd f := by rw [eP]; exact pnd_bd fun p hp => (hS.bd 0 p hp).1
  have k2 : ∃ v, (Ag [] [18, 29, 30] v2 v ∧ (∀ j, j < fMd f → v.2 18 j = b2i ((en j).isSome && !Lv j) ∧ v.2 30 j = b2i (tb x j && (en j).isSome && !Lv j)) ∧ (∀ j, fMd f ≤ j → v.2 18 j = v2.2 18 j ∧ v.2 30 j = v2.2 30 j) ∧ RMp (killX P0 fun m => decide (m < fMd f) && Lv m) v) ∧ n_X3_forgets_b52 FU (mput M S v2) (some M) (nI 0) = some ((), mput M S v) := by
    refine lp_st (fun m k (v : MM) => n_X3_forgets_b52 m (mput M S v) (some M) (nI k)) (fun v => some ((), mput M S v)) (fun k v => Ag [] [18, 29, 30] v2 v ∧ (∀ j, j < k → v.2 18 j = b2i ((en j).isSome && !Lv j) ∧ v.2 30 j = b2i (tb x j && (en j).isSome && !Lv j)) ∧ (∀ j, k ≤ j → v.2 18 j = v2.2 18 j ∧ v.2 30 j = v2.2 30 j) ∧ RMp (killX P0 fun m => decide (m < k) && Lv m) v) _ (fMd f) ?_ ?_ FU 0 v2 (Nat.zero_le _) (by simp only [FU]; omega) ⟨Ag_rf _ _ _, fun j hj => by omega, fun j _ => ⟨rfl, rfl⟩, ?_⟩
    · intro m k v hk ⟨q1, q2, q3, q4⟩
      have k60 : k < 60 := by omega
      have hmd : v.1 2 = nI (fMd f) := by rw [q1.1 2 (by decide), g1.1 2 (by decide)]; exact hf.1
      have hl : v.2 31 k = b2i (Lv k) := by rw [q1.2 31 (by decide)]; exact g2 k hk
      have h88 : ∀ w : MM, n_X3_forgets_b88 (n_X3_forgets_b52 m) (mput M S w) (some M) (nI k) = n_X3_forgets_b52 m (mput M S w) (some M) (nI (k + 1)) := fun w => by simp only [n_X3_forgets_b88, nI_1]
      have hPk : RMp (killX P0 fun m => decide (m < k) && Lv m) v := q4
      rcases Bool.eq_false_or_eq_true (Lv k) with hb | hb
      · obtain ⟨w1, z1⟩ : ∃ x, x = ua v 18 k (b2i false) := ⟨_, rfl⟩
        obtain ⟨w2, z2⟩ : ∃ x, x = ua w1 30 k (b2i false) := ⟨_, rfl⟩
        have t1 := ms_18 (M := M) (S := S) (u := v) false k60
        have t2 := ms_30 (M := M) (S := S) (u := w1) false k60
        rw [← z1] at t1
        rw [← z2] at t2
        have a2 : Ag [] [18, 30] v w2 := by rw [z2, z1]; exact Ag_tr (Ag_ua _ _ _ (by decide)) (Ag_ua _ _ _ (by decide))
        obtain ⟨w3, d1, d2, d3⟩ := q_kills (M := M) (S := S) (hPk.ag a2) (by simp only [killX, List.length_map]; exact hP6) (fun p hp => by
          obtain ⟨p0, hp0, rfl⟩ := List.mem_map.mp hp
          have := hPb p0 hp0
          show p0.2.1 < 60
          omega) k60
        refine ⟨w3, ⟨Ag_tr q1 (Ag_tr (Ag_up a2 (by decide) (by decide)) (Ag_up d2 (by decide) (by decide))), fun j hj => ?_, fun j hj => ?_, ?_⟩, ?_⟩
        · rw [d2.2 18 (by decide), d2.2 30 (by decide), z2, z1]
          simp only [ua_2]
          by_cases e : j = k
          · subst e; simp [hb]
          · simp [e]; exact q2 j (by omega)
        · rw [d2.2 18 (by decide), d2.2 30 (by decide), z2, z1]
          simp only [ua_2]
          have e : ¬ j = k := by omega
          simp [e]; exact q3 j (by omega)
        · have : kilP (killX P0 fun m => decide (m < k) && Lv m) k = killX P0 fun m => decide (m < k + 1) && Lv m := by
            simp only [kilP, killX, List.map_map]
            refine List.map_congr_left fun p _ => ?_
            simp only [Function.comp]
            by_cases e : p.2.1 = k
            · simp [e, hb]
            · have e1 : decide (p.2.1 < k + 1) = decide (p.2.1 < k) := by simp; omega
              rw [e1]; simp [beq_false_of_ne e]
          rw [← this]; exact d3
        · simp only [n_X3_forgets_b52, mI_2, ob_s, hmd, nI_leE hz (show k < 2 ^ 31 by omega), mR_43, ma_31 k60, hl, b2i_0, hb, Bool.true_eq_false, if_false, mR_22]
          rw [if_neg (by omega), show (0 : Int32) = b2i false from rfl]
          simp only [t1, ob_s, mR_42, t2, mg_c, gd_t, d1, bn_s, h88]
      · refine ⟨v, ⟨q1, fun j hj => ?_, fun j hj => q3 j (by omega), ?_⟩, ?_⟩
        · by_cases e : j = k
          · subst e
            have a1 := (q3 j (Nat.le_refl _)).1
            have a2 := (q3 j (Nat.le_refl _)).2
            rw [a1, a2, g1.2 18 (by decide), g1.2 30 (by decide), hb]
            exact ⟨by simpa using (he j k60).1, by simpa using hw j k60⟩
          · exact q2 j (by omega)
        · have : (killX P0 fun m => decide (m < k + 1) && Lv m) = killX P0 fun m => decide (m < k) && Lv m := by
            simp only [killX]
            refine List.map_congr_left fun p _ => ?_
            by_cases e : p.2.1 = k
            · simp [e, hb]
            · have e1 : decide (p.2.1 < k + 1) = decide (p.2.1 < k) := by simp; omega
              rw [e1]
          rw [this]; exact q4
        · simp only [n_X3_forgets_b52, mI_2, ob_s, hmd, nI_leE hz (show k < 2 ^ 31 by omega), mR_43, ma_31 k60, hl, b2i_0, hb, if_true, h88]
          rw [if_neg (by omega)]
    · intro m v hv
      have hmd : v.1 2 = nI (fMd f) := by rw [hv.1.1 2 (by decide), g1.1 2 (by decide)]; exact hf.1
      refine ⟨v, hv, ?_⟩
      simp only [n_X3_forgets_b52, mI_2, ob_s, hmd, nI_leE hz hz, Nat.le_refl, if_true]
    · have : (killX P0 fun m => decide (m < 0) && Lv m) = P0 := by simp [killX]
      rw [this, eP]; exact hs.2.ag g1
  obtain ⟨v, ⟨q1, q2, q3, q4⟩, k2⟩ := k2
  have hag : Ag [] [18, 29, 30, 31] u v := Ag_tr (Ag_up g1 (by decide) (by decide)) (Ag_up q1 (by decide) (by decide))
  have hdr : ∀ k, ((drE en (drS rs en n)) k).isSome = ((en k).isSome && !Lv k) := fun k => by
    simp only [drE, hD]
    rcases Bool.eq_false_or_eq_true (en k).isSome with b1 | b1 <;> rcases Bool.eq_false_or_eq_true (Lv k) with b2 | b2 <;> simp [b1, b2]
  rw [nI_0] at k1 k2
  refine ⟨v, by simp only [n_X3_forgets]; rw [k1, k2], hag, fun k hk => ?_, ⟨?_, ?_⟩, fun k hk => ?_⟩
  · by_cases hkm : k < fMd f
    · refine ⟨by rw [(q2 k hkm).1, hdr], fun e hee => ?_⟩
      have hen : en k = some e := by
        simp only [drE] at hee
        split at hee
        · cases hee
        · exact hee
      rw [hag.2 19 (by decide), hag.2 20 (by decide), hag.2 21 (by decide), hag.2 22 (by decide), hag.2 23 (by decide)]
      exact (he k hk).2 e hen
    · have hn0 : (drE en (drS rs en n)) k = none := by simp [drE, hno k (by omega)]
      rw [hn0]
      refine ⟨?_, fun e hee => by cases hee⟩
      rw [(q3 k (by omega)).1, g1.2 18 (by decide), (he k hk).1, hno k (by omega)]
  · rw [hag.1 41 (by decide), hs.1]; simp [kilS]
  · have : pnd (drE en (drS rs en n)) x (plF (kilS sg (drS rs en n)) 0) = killX P0 fun m => decide (m < fMd f) && Lv m := by
      rw [plF_kil, eP]
      simp only [pnd, killX, List.map_map]
      refine List.map_congr_left fun p hp => ?_
      obtain ⟨b1, -, b2⟩ := hS.bd 0 p hp
      simp only [Function.comp, hD, hdr]
      have e1 : decide (p.2.1 < fMd f) = true := by simpa using b1
      rw [e1]
      cases hL : Lv p.2.1 with
      | false => simp
      | true =>
        cases hd : p.2.2 with
        | true => simp
        | false => simp [b2 hd]
    rw [this]; exact q4
  · by_cases hkm : k < fMd f
    · rw [(q2 k hkm).2, hdr]
      cases tb x k <;> simp
    · rw [(q3 k (by omega)).2, g1.2 30 (by decide), hw k hk, hdr, hno k (by omega)]; simp
theorem q_cost {nm : Nm} (hs : RA s u) (A : AC (zF s) rk) (h6 : fMd (zF s) ≤ 60) (hT : RT (zF s) (zR s)) (hN : RN (zF s) (zR s)) (hE : ES (zF s) (zE s)) (hF : FS (zF s)) (hF1 : ∀ k, k < fMd (zF s) → 0 < fEd (zF s) k) (hB : AB (zF s) (zA s)) {i : Nat} {a : AcV} (hi : (zA s)[i]? = some a) : n_X3_cost (mput M S u) (some M) (nI i) = some (nI (cosA s a), mput M S u) := by
  obtain ⟨⟨hf, hr, he, ha, -, -, -⟩, -⟩ := hs
  have hil := (List.getElem?_eq_some_iff.mp hi).1
  have hl := hB.len h6
  have i60 : i < 60 := by omega
  obtain ⟨a1, a2, -⟩ := ha.2 i a hi
  have hn := hB.2 a (List.mem_of_getElem? hi)
  have n60 : a.1 < 60 := by omega
  have e1 : (prI (ovr (zF s) (zR s) a.1) = -1) = ((abv (zF s) (zR s) a.1).isSome = false) := by
    rw [prI_none (ovr_bd hT.toS a.1), ← ovr_iff A hN hn]
    cases ovr (zF s) (zR s) a.1 <;> simp
  obtain ⟨e2, e3⟩ := he a.1 n60
  have hd : ((if a.2.1 then (2 : Int32) else 1) = 1) = (a.2.1 = false) := by cases a.2.1 <;> simp
  simp only [n_X3_cost, n_X3_cost_b48, n_X3_cost_b49, n_X3_cost_b78, mR_31, mR_32, ob_s, ma_24 i60, ma_25 i60, a1, a2, hd, mg_c, gd_t, q_over hf A hr hT.toS h6 hn, bn_s, e1, mR_4, ma_1 n60, hf.fo hn, mR_10, ma_7 n60, hf.lk hn, b2i_0, mR_22, ma_18 n60, e2, mR_25, ma_21 n60, mR_7, ma_4 n60, hf.ed hn, mR_8, ma_5 n60, hf.mm hn, rt_i, id, if_true]
  have h10 : ((1 : Int32) = 0) = False := by simp
  simp only [h10, if_false, show (1 : Int32) + nI (fMk (zF s) a.1).length = nI (1 + (fMk (zF s) a.1).length) by rw [li_1, nI_add]]
  simp only [cosA]
  have h1 : (1 : Int32) = nI 1 := li_1
  cases b1 : a.2.1 with
  | true => simp [h1]
  | false =>
    rcases Bool.eq_false_or_eq_true (abv (zF s) (zR s) a.1).isSome with b2 | b2
    · rcases Bool.eq_false_or_eq_true (fFo (zF s) a.1) with b3 | b3
      · simp [b2, b3, h1]
      · rcases Bool.eq_false_or_eq_true (fLk (zF s) a.1) with b4 | b4
        · simp [b2, b3, b4, h1]
        · cases b5 : zE s a.1 with
          | none => simp [b2, b3, b4]
          | some e =>
            have hed := (hF a.1 hn).1
            have hes := hE a.1 e b5
            rw [(e3 e b5).2.2.1]
            simp only [nI_eqE (show e.2.2.1 < 2 ^ 31 by omega) (show fEd (zF s) a.1 < 2 ^ 31 by omega)]
            by_cases b6 : e.2.2.1 = fEd (zF s) a.1
            · simp [b2, b3, b4, b6, eEd, b5, h1]
            · simp [b2, b3, b4, b6, eEd, b5, beq_false_of_ne b6]
    · simp [b2, h1]
end
