/-! the reference's index after a work; the work -/
section
variable {M : Nat} {S : St} {u v w : MM} {f f' : Fl} {rs rs' : List RtV} {en : En} {ac : List AcV} {s : Sg} {rk rk' : Nat → Nat} {P : List PlV}
theorem plF_lt {p : PlV} : ∀ (sg : List SgV) (i : Nat), p ∈ plF sg i → p.1 < i + sg.length := by
  intro sg
  induction sg with
  | nil => intro i h; cases h
  | cons a t ih =>
    intro i h
    rcases List.mem_append.mp h with h | h
    · obtain ⟨q, -, rfl⟩ := List.mem_map.mp h; simp
    · have := ih (i + 1) h; simp; omega
def B4 (l : List SgV) : Prop := l.length ≤ 4 ∧ ∀ g ∈ l, g.2.length ≤ 60
theorem B4.len {l : List SgV} (h : B4 l) : (plF l 0).length ≤ 600 := by
  have := plF_len l (c := 4) (n := 60) h.1 h.2 0
  omega
theorem B4.bd {l : List SgV} (h : B4 l) : ∀ p ∈ plF l 0, p.1 < 600 := fun p hp => by
  have := plF_lt l 0 hp; have := h.1; omega
theorem rdL_any {x : Int64} {k : Nat} : ∀ n, ((rdL x en n).any fun j => j == k) = (decide (k < n) && (tb x k && (en k).isSome)) := by
  intro n
  induction n with
  | zero => simp [rdL]
  | succ n ih =>
    simp only [rdL]
    by_cases e : k = n
    · subst e
      by_cases c : (tb x k && (en k).isSome) = true
      · rw [if_pos c]; simp [c]
      · have c' : (tb x k && (en k).isSome) = false := by simpa using c
        rw [if_neg c, ih, c']; simp
    · have e1 : decide (k < n + 1) = decide (k < n) := by simp; omega
      rw [e1, ← ih]
      split
      · simp [beq_false_of_ne (fun z : n = k => e z.symm)]
      · rfl
theorem rdL_len {x : Int64} : ∀ n, (rdL x en n).length ≤ n := by
  intro n
  induction n with
  | zero => exact Nat.le_refl _
  | succ n ih =>
    simp only [rdL]
    split
    · simp; omega
    · omega
theorem rdL_ext {x : Int64} {n m : Nat} (h : ∀ k, n ≤ k → en k = none) (hm : n ≤ m) : rdL x en m = rdL x en n := by
  induction m with
  | zero => have : n = 0 := by omega
            subst this; rfl
  | succ m ih =>
    by_cases e : n = m + 1
    · subst e; rfl
    · have h1 : n ≤ m := by omega
      simp only [rdL, h m h1, Option.isSome_none, Bool.and_false, Bool.false_eq_true, if_false]
      exact ih h1
theorem set_erase {α : Type} (l : List α) (j : Nat) (a : α) : (l.set j a).eraseIdx j = l.eraseIdx j := by
  refine List.ext_getElem? fun i => ?_
  rw [List.getElem?_eraseIdx, List.getElem?_eraseIdx]
  split
  · rw [List.getElem?_set, if_neg (by omega)]
  · rw [List.getElem?_set, if_neg (by omega)]
theorem bstS_le (sg : List SgV) : ∀ k, bstS sg k ≤ k := by
  intro k
  induction k with
  | zero => exact Nat.le_refl _
  | succ k ih =>
    simp only [bstS]
    split
    · exact Nat.le_refl _
    · omega
theorem q_cntAll {l : List SgV} (h : RMp (plF l 0) u) (hB : B4 l) {j : Nat} {g : SgV} (hj : l[j]? = some g) : n_X3_count (mput M S u) (some M) (nI j) 0 = some (nI g.2.length, mput M S u) := by
  have hjl := (List.getElem?_eq_some_iff.mp hj).1
  have h4 := hB.1
  have := q_count (M := M) (S := S) h hB.len hB.bd (j := j) (by omega) false
  have e := cnt_at (fun b => b || !false) j l 0 g hj
  rw [Nat.zero_add] at e
  rw [e] at this
  simp only [Bool.not_false, Bool.or_true, List.countP_true, b2i_f] at this
  exact this
theorem q_cntDead {l : List SgV} (h : RMp (plF l 0) u) (hB : B4 l) {j : Nat} {g : SgV} (hj : l[j]? = some g) : n_X3_count (mput M S u) (some M) (nI j) 1 = some (nI (g.2.countP fun p => p.2), mput M S u) := by
  have hjl := (List.getElem?_eq_some_iff.mp hj).1
  have h4 := hB.1
  have := q_count (M := M) (S := S) h hB.len hB.bd (j := j) (by omega) true
  have e := cnt_at (fun b => b || !true) j l 0 g hj
  rw [Nat.zero_add] at e
  rw [e] at this
  simp only [Bool.not_true, Bool.or_false, b2i_t] at this
  exact this
/-- segments without living places go -/
theorem q_gone {l : List SgV} (h : RMp (plF l 0) u) (h41 : u.1 41 = nI l.length) (hB : B4 l) : ∃ v, n_X3_indexes_b104 FU (mput M S u) (some M) (nI l.length - 1) = n_X3_indexes_b139 FU (mput M S v) (some M) ∧ Ag [37, 41] [27, 28, 29] u v ∧ RMp (plF (l.filter fun g => g.2.any fun p => !p.2) 0) v ∧ v.1 41 = nI (l.filter fun g => g.2.any fun p => !p.2).length := by
  have h4 := hB.1
  have key := lp_sd (fun m k (v : MM) => n_X3_indexes_b104 m (mput M S v) (some M) (nI k - 1)) (fun v => n_X3_indexes_b139 FU (mput M S v) (some M)) (fun k v => k ≤ l.length ∧ Ag [37, 41] [27, 28, 29] u v ∧ RMp (plF (l.take k ++ (l.drop k).filter fun g => g.2.any fun p => !p.2) 0) v ∧ v.1 41 = nI (l.take k ++ (l.drop k).filter fun g => g.2.any fun p => !p.2).length) (fun v => Ag [37, 41] [27, 28, 29] u v ∧ RMp (plF (l.filter fun g => g.2.any fun p => !p.2) 0) v ∧ v.1 41 = nI (l.filter fun g => g.2.any fun p => !p.2).length) ?_ ?_ FU l.length u (by simp only [FU]; omega) ⟨Nat.le_refl _, Ag_rf _ _ _, by simpa using h, by simpa using h41⟩
  · obtain ⟨v, g1, g2⟩ := key
    exact ⟨v, g2, g1⟩
  · intro m k v ⟨hk, g1, g2, g3⟩
    have hkl : k < l.length := by omega
    have et : l.take (k + 1) = l.take k ++ [l[k]] := List.take_succ_eq_append_getElem hkl
    rw [et, List.append_assoc, List.singleton_append] at g2 g3
    obtain ⟨F, eF⟩ : ∃ F, F = (l.drop (k + 1)).filter fun g => g.2.any fun p => !p.2 := ⟨_, rfl⟩
    rw [← eF] at g2 g3
    have hlen : (l.take k).length = k := by simp; omega
    have hFl : F.length ≤ l.length - (k + 1) := by
      rw [eF]
      have := List.length_filter_le (fun g : SgV => g.2.any fun p => !p.2) (l.drop (k + 1))
      rw [List.length_drop] at this
      exact this
    obtain ⟨cur, ec⟩ : ∃ cur, cur = l.take k ++ (l[k] :: F) := ⟨_, rfl⟩
    rw [← ec] at g2 g3
    have hcl : cur.length = k + (F.length + 1) := by rw [ec]; simp; omega
    have hget : cur[k]? = some l[k] := by
      rw [ec, List.getElem?_append_right (by omega), hlen]; simp
    have hBc : B4 cur := by
      refine ⟨by omega, fun g hg => hB.2 g ?_⟩
      rw [ec] at hg
      rcases List.mem_append.mp hg with z | z
      · exact List.mem_of_mem_take z
      · rcases List.mem_cons.mp z with rfl | z
        · exact List.getElem_mem hkl
        · rw [eF] at z; exact List.mem_of_mem_drop (List.mem_filter.mp z).1
    have h60 := hB.2 _ (List.getElem_mem hkl)
    have hcd : l[k].2.countP (fun p => p.2) ≤ l[k].2.length := List.countP_le_length
    have h133 : ∀ w : MM, n_X3_indexes_b133 (n_X3_indexes_b104 m) (mput M S w) (some M) (nI k) = n_X3_indexes_b104 m (mput M S w) (some M) (nI k - 1) := fun w => by simp only [n_X3_indexes_b133, i_addm1]
    have ed : (l.drop k).filter (fun g => g.2.any fun p => !p.2) = if (l[k].2.any fun p => !p.2) = true then l[k] :: F else F := by
      rw [List.drop_eq_getElem_cons hkl, List.filter_cons, eF]
    have hall : (l[k].2.length = l[k].2.countP fun p => p.2) = ((l[k].2.any fun p => !p.2) = false) := by
      rw [List.any_eq_false]
      refine propext ⟨fun z p hp => ?_, fun z => ?_⟩
      · have := List.countP_eq_length.mp z.symm p hp
        simp [this]
      · refine (List.countP_eq_length.mpr fun p hp => ?_).symm
        have := z p hp
        simpa using this
    simp only [n_X3_indexes_b104, nI_pred, nI_lt0 (show k < 2 ^ 31 by omega), if_false, mg_c, gd_t, q_cntAll g2 hBc hget, q_cntDead g2 hBc hget, bn_s, nI_eqE (show l[k].2.length < 2 ^ 31 by omega) (show l[k].2.countP (fun p => p.2) < 2 ^ 31 by omega), hall, h133]
    rw [ed]
    rcases Bool.eq_false_or_eq_true (l[k].2.any fun p => !p.2) with c | c
    · refine ⟨v, ⟨by omega, g1, ?_, ?_⟩, by rw [if_neg (by rw [c]; decide)]⟩
      · rw [if_pos c, ← ec]; exact g2
      · rw [if_pos c, ← ec]; exact g3
    · obtain ⟨v1, d1, d2, d3⟩ := q_cleans (M := M) (S := S) g2 hBc.len hBc.bd (j := k) (by omega)
      have e1 := cln_set k cur 0 l[k] hget
      rw [Nat.zero_add] at e1
      rw [e1] at d3
      have hlv : lvS l[k] = [] := by
        unfold lvS
        refine List.filter_eq_nil_iff.mpr fun p hp => ?_
        have := List.any_eq_false.mp c p hp
        exact this
      have hsb : B4 (cur.set k (l[k].1, lvS l[k])) := by
        refine ⟨by simpa using hBc.1, fun g hg => ?_⟩
        rcases List.mem_or_eq_of_mem_set hg with z | z
        · exact hBc.2 g z
        · subst z; rw [hlv]; simp
      obtain ⟨v2, j1, j2, j3, j4⟩ := q_joins (M := M) (S := S) d3 hsb.len hsb.bd (j := k) (n := k + F.length) (by omega) (by rw [d2.1 41 (by decide), g3, hcl]; rfl)
      have e2 := dec_erase k (cur.set k (l[k].1, lvS l[k])) 0 (l[k].1, lvS l[k]) (by rw [List.getElem?_set_self (by omega)]) hlv
      rw [Nat.zero_add] at e2
      rw [e2, set_erase] at j3
      have e3 : cur.eraseIdx k = l.take k ++ F := by
        rw [ec, List.eraseIdx_append_of_length_le (by omega), hlen]; simp
      rw [e3] at j3
      refine ⟨v2, ⟨by omega, Ag_tr g1 (Ag_tr (Ag_up d2 (by decide) (by decide)) (Ag_up j2 (by decide) (by decide))), ?_, ?_⟩, ?_⟩
      · rw [if_neg (by rw [c]; decide)]; exact j3
      · rw [if_neg (by rw [c]; decide), j4, List.length_append, hlen]
      · rw [if_pos c, d1]
        simp only [bn_s, mg_c, gd_t, j1, h133]
  · intro m v ⟨_, g1, g2, g3⟩
    refine ⟨v, ⟨g1, by simpa using g2, by simpa using g3⟩, ?_⟩
    simp only [n_X3_indexes_b104, e_m1, if_true]
/-- two segments become one -/
theorem q_join {l : List SgV} (h : RMp (plF l 0) u) (h41 : u.1 41 = nI l.length) (hB : B4 l) : ∃ v, n_X3_indexes_b139 FU (mput M S u) (some M) = some ((), mput M S v) ∧ Ag [37, 41] [27, 28, 29] u v ∧ RMp (plF (if 3 < l.length then joiS l else l) 0) v ∧ v.1 41 = nI (if 3 < l.length then joiS l else l).length := by
  have h4 := hB.1
  obtain ⟨m0, hFU⟩ : ∃ m, FU = m + 2 := ⟨99998, rfl⟩
  rw [hFU]
  by_cases c : 3 < l.length
  · simp only [if_pos c]
    have hl4 : l.length = 4 := by omega
    have sz : ∀ j, j < 4 → ∃ g, l[j]? = some g ∧ g.2.length ≤ 60 := fun j hj => ⟨l[j]'(by omega), List.getElem?_eq_getElem (by omega), hB.2 _ (List.getElem_mem (by omega))⟩
    have start : n_X3_indexes_b139 (m0 + 2) (mput M S u) (some M) = n_X3_indexes_b151 (n_X3_indexes_b139 (m0 + 1)) FU (mput M S u) (some M) 0 1 := by
      show n_X3_indexes_b139 (m0 + 1 + 1) _ _ = _
      simp only [n_X3_indexes_b139, mI_41, ob_s, h41, li_3, nI_leE (show l.length < 2 ^ 31 by omega) (show 3 < 2 ^ 31 by decide)]
      rw [if_neg (by omega)]
    rw [start]
    obtain ⟨b, eb⟩ : ∃ b, b = bstS l (l.length - 2) := ⟨_, rfl⟩
    have hb2 : b ≤ 2 := by rw [eb]; have := bstS_le l (l.length - 2); omega
    obtain ⟨ga, hga, ha60⟩ := sz b (by omega)
    obtain ⟨gb, hgb, hb60⟩ := sz (b + 1) (by omega)
    have ej : joiS l = (l.set b (ga.1, lvS ga ++ lvS gb)).eraseIdx (b + 1) := by
      simp only [joiS, ← eb, hga, hgb]
    have key := lp_up (fun m k => n_X3_indexes_b151 (n_X3_indexes_b139 (m0 + 1)) m (mput M S u) (some M) (nI (bstS l k)) (nI (k + 1))) 2 (bn (n_X3_cleans (mput M S u) (some M) (nI b)) fun _ S2 => gd (grc S2 (some M) 15) <| bn (n_X3_cleans S2 (some M) (nI (b + 1))) fun _ S4 => gd (grc S4 (some M) 15) <| bn (n_X3_joins S4 (some M) (nI b)) fun _ S6 => n_X3_indexes_b139 (m0 + 1) S6 (some M)) (fun _ => True) ?_ ?_ FU 0 (by omega) (by simp only [FU]; omega) trivial
    · simp only [bstS, Nat.zero_add] at key
      rw [nI_0, ← li_1] at key
      rw [key]
      obtain ⟨v1, d1, d2, d3⟩ := q_cleans (M := M) (S := S) h hB.len hB.bd (j := b) (by omega)
      have e1 := cln_set b l 0 ga hga
      rw [Nat.zero_add] at e1
      rw [e1] at d3
      have hlv : ∀ g : SgV, (lvS g).length ≤ g.2.length := fun g => List.length_filter_le _ _
      have hB1 : B4 (l.set b (ga.1, lvS ga)) := by
        refine ⟨by simpa using hB.1, fun g hg => ?_⟩
        rcases List.mem_or_eq_of_mem_set hg with z | z
        · exact hB.2 g z
        · subst z; have := hlv ga; show (lvS ga).length ≤ 60; omega
      obtain ⟨v2, f1, f2, f3⟩ := q_cleans (M := M) (S := S) d3 hB1.len hB1.bd (j := b + 1) (by omega)
      have hgb' : (l.set b (ga.1, lvS ga))[b + 1]? = some gb := by rw [List.getElem?_set, if_neg (by omega)]; exact hgb
      have e2 := cln_set (b + 1) (l.set b (ga.1, lvS ga)) 0 gb hgb'
      rw [Nat.zero_add] at e2
      rw [e2] at f3
      have hB2 : B4 ((l.set b (ga.1, lvS ga)).set (b + 1) (gb.1, lvS gb)) := by
        refine ⟨by simpa using hB.1, fun g hg => ?_⟩
        rcases List.mem_or_eq_of_mem_set hg with z | z
        · exact hB1.2 g z
        · subst z; have := hlv gb; show (lvS gb).length ≤ 60; omega
      obtain ⟨v3, j1, j2, j3, j4⟩ := q_joins (M := M) (S := S) f3 hB2.len hB2.bd (j := b) (n := 3) (by omega) (by rw [f2.1 41 (by decide), d2.1 41 (by decide), h41, hl4])
      have e3 := dec_merge b ((l.set b (ga.1, lvS ga)).set (b + 1) (gb.1, lvS gb)) 0 (ga.1, lvS ga) (gb.1, lvS gb) (by rw [List.getElem?_set_ne (by omega), List.getElem?_set_self (by omega)]) (by rw [List.getElem?_set_self (by rw [List.length_set]; omega)])
      rw [Nat.zero_add] at e3
      have e4 : (((l.set b (ga.1, lvS ga)).set (b + 1) (gb.1, lvS gb)).set b (ga.1, lvS ga ++ lvS gb)).eraseIdx (b + 1) = joiS l := by
        rw [ej, List.set_comm _ _ (by omega : b + 1 ≠ b), set_erase, List.set_set]
      rw [e3] at j3
      simp only at j3
      rw [e4] at j3
      have hjl : (joiS l).length = 3 := by rw [ej, List.length_eraseIdx_of_lt (by rw [List.length_set]; omega), List.length_set]; omega
      refine ⟨v3, ?_, Ag_tr (Ag_up d2 (by decide) (by decide)) (Ag_tr (Ag_up f2 (by decide) (by decide)) (Ag_up j2 (by decide) (by decide))), j3, by rw [hjl]; exact j4⟩
      simp only [d1, bn_s, mg_c, gd_t, f1, j1, n_X3_indexes_b139, mI_41, ob_s, j4, li_3, nI_leE (show 3 < 2 ^ 31 by decide) (show 3 < 2 ^ 31 by decide), Nat.le_refl, if_true]
    · intro m k hk _
      refine Or.inl ⟨trivial, ?_⟩
      have hbk := bstS_le l k
      obtain ⟨g1, hg1, l1⟩ := sz (k + 1) (by omega)
      obtain ⟨g2, hg2, l2⟩ := sz (k + 2) (by omega)
      obtain ⟨g3, hg3, l3⟩ := sz (bstS l k) (by omega)
      obtain ⟨g4, hg4, l4⟩ := sz (bstS l k + 1) (by omega)
      have h199 : ∀ x : Int32, n_X3_indexes_b199 (n_X3_indexes_b139 (m0 + 1)) (n_X3_indexes_b151 (n_X3_indexes_b139 (m0 + 1)) m) (mput M S u) (some M) (nI (k + 1)) x = n_X3_indexes_b151 (n_X3_indexes_b139 (m0 + 1)) m (mput M S u) (some M) x (nI (k + 1 + 1)) := fun x => by simp only [n_X3_indexes_b199, nI_1]
      simp only [n_X3_indexes_b151, mI_41, ob_s, h41, nI_1, nI_leE (show l.length < 2 ^ 31 by omega) (show k + 1 + 1 < 2 ^ 31 by omega), mg_c, gd_t, q_cntAll h hB hg1, q_cntAll h hB hg2, q_cntAll h hB hg3, q_cntAll h hB hg4, bn_s, nI_add, nI_leE (show g3.2.length + g4.2.length < 2 ^ 31 by omega) (show g1.2.length + g2.2.length < 2 ^ 31 by omega), h199]
      rw [if_neg (by omega)]
      simp only [bstS, hg1, hg2, hg3, hg4, Option.map_some, Option.getD_some]
      by_cases cc : g1.2.length + g2.2.length < g3.2.length + g4.2.length
      · rw [if_pos cc, if_neg (by omega)]
      · rw [if_neg cc, if_pos (by omega)]
    · intro m _
      have hb' : bstS l 2 = b := by rw [eb, hl4]
      simp only [n_X3_indexes_b151, mI_41, ob_s, h41, nI_1, nI_leE (show l.length < 2 ^ 31 by omega) (show 2 + 1 + 1 < 2 ^ 31 by omega), hb', mg_c, gd_t]
      rw [if_pos (by omega)]
  · simp only [if_neg c]
    refine ⟨u, ?_, Ag_rf _ _ _, h, h41⟩
    show n_X3_indexes_b139 (m0 + 1 + 1) _ _ = _
    simp only [n_X3_indexes_b139, mI_41, ob_s, h41, li_3, nI_leE (show l.length < 2 ^ 31 by omega) (show 3 < 2 ^ 31 by decide)]
    rw [if_pos (by omega)]
theorem q_indexes (hI : IW s rk) (hs : RA s u) (h3 : (zS s).length ≤ 3) (id : Nat) : ∃ v, n_X3_indexes (mput M S u) (some M) = some ((), mput M S v) ∧ RA (stor s id) v ∧ v.1 0 = u.1 0 := by
  obtain ⟨A, h6, hT, hN, hB, hE, hF, hS, hF1, hE0, hW⟩ := hI
  obtain ⟨⟨hf, hr, he, ha, hsg, hw, hnn⟩, hz⟩ := hs
  have hzl : fMd (zF s) < 2 ^ 31 := by omega
  have hno : ∀ k, fMd (zF s) ≤ k → zE s k = none := fun k hk => by
    cases hek : zE s k with
    | none => rfl
    | some e => have := (hE k e hek).1; omega
  obtain ⟨rd, erd⟩ : ∃ rd, rd = rdL (zW s) (zE s) 60 := ⟨_, rfl⟩
  have erd2 : rd = rdL (zW s) (zE s) (fMd (zF s)) := by rw [erd]; exact rdL_ext hno h6
  obtain ⟨s1, es1⟩ : ∃ s1, s1 = kilS (zS s) fun k => rd.any fun j => j == k := ⟨_, rfl⟩
  obtain ⟨s2, es2⟩ : ∃ s2, s2 = if rd.isEmpty then s1 else s1 ++ [(id, rd.map fun k => (k, false))] := ⟨_, rfl⟩
  have hsto : stoS s id = if 3 < (s2.filter fun g => g.2.any fun p => !p.2).length then joiS (s2.filter fun g => g.2.any fun p => !p.2) else s2.filter fun g => g.2.any fun p => !p.2 := by
    simp only [stoS, ← erd, ← es1, ← es2]
  have hP0 : pnd (zE s) (zW s) (plF (zS s) 0) = plF s1 0 := by
    rw [es1, plF_kil]
    unfold pnd killX
    refine List.map_congr_left fun p hp => ?_
    have := (hS.bd 0 p hp).1
    have e : (rd.any fun j => j == p.2.1) = (tb (zW s) p.2.1 && (zE s p.2.1).isSome) := by
      rw [erd, rdL_any]
      have : decide (p.2.1 < 60) = true := by simp; omega
      rw [this, Bool.true_and]
    exact congrArg (fun z : Bool => (p.1, p.2.1, p.2.2 || z)) e.symm
  have hs1l : s1.length = (zS s).length := by rw [es1]; simp [kilS]
  have hB1 : ∀ g ∈ s1, g.2.length ≤ 60 := fun g hg => by
    rw [es1] at hg
    obtain ⟨g0, h0, rfl⟩ := List.mem_map.mp hg
    have := nd_len _ _ (hS.2 g0 h0).1 (fun x hx => by
      obtain ⟨p, hp, rfl⟩ := List.mem_map.mp hx
      exact ((hS.2 g0 h0).2 p hp).1)
    rw [List.length_map] at this
    simp only [List.length_map]
    omega
  have hB2 : B4 s2 := by
    rw [es2]
    split
    · exact ⟨by omega, hB1⟩
    · refine ⟨by simp; omega, fun g hg => ?_⟩
      rcases List.mem_append.mp hg with z | z
      · exact hB1 g z
      · simp at z
        subst z
        simp only [List.length_map]
        rw [erd]; exact rdL_len 60
  have hP6 : (plF s1 0).length ≤ 180 := by
    have := plF_len s1 (c := 3) (n := 60) (by omega) hB1 0
    omega
  obtain ⟨L, eL⟩ : ∃ L, L = (zS s).length := ⟨_, rfl⟩
  -- new places
  have key := lp_st (fun m k (v : MM) => n_X3_indexes_b4 m (mput M S v) (some M) (b2i (!(rdL (zW s) (zE s) k).isEmpty)) (nI k)) (fun v => n_X3_indexes_b93 (mput M S v) (some M) (b2i (!rd.isEmpty)) (nI L) (some M)) (fun k v => Ag [37] [27, 28, 29, 30] u v ∧ RMp (plF s1 0 ++ (rdL (zW s) (zE s) k).map fun j => ((L, j, false) : PlV)) v ∧ (∀ j, j < k → v.2 30 j = b2i false) ∧ ∀ j, k ≤ j → v.2 30 j = u.2 30 j) (fun v => Ag [37] [27, 28, 29, 30] u v ∧ RMp (plF s1 0 ++ rd.map fun j => ((L, j, false) : PlV)) v ∧ (∀ j, j < fMd (zF s) → v.2 30 j = b2i false) ∧ ∀ j, fMd (zF s) ≤ j → v.2 30 j = u.2 30 j) (fMd (zF s)) ?_ ?_ FU 0 u (Nat.zero_le _) (by simp only [FU]; omega) ⟨Ag_rf _ _ _, by simp only [rdL, List.map_nil, List.append_nil]; rw [← hP0]; exact hsg.2, fun j hj => by omega, fun j _ => rfl⟩
  · obtain ⟨v, ⟨g1, g2, g3, g4⟩, g5⟩ := key
    simp only [rdL, List.isEmpty_nil, Bool.not_true, b2i_f, nI_0] at g5
    have hs2 : plF s1 0 ++ rd.map (fun j => ((L, j, false) : PlV)) = plF s2 0 := by
      rw [es2]
      cases hrd : rd with
      | nil => simp
      | cons a t =>
        simp only [List.isEmpty_cons, Bool.false_eq_true, if_false]
        rw [plF_app]
        simp only [plF, List.append_nil, Nat.zero_add, hs1l, ← eL, List.map_map]
        rfl
    have hs2l : s2.length = L + (if rd.isEmpty then 0 else 1) := by
      rw [es2]
      split
      · omega
      · simp; omega
    rw [hs2] at g2
    obtain ⟨v1, z1⟩ : ∃ x, x = ui v 41 (nI s2.length) := ⟨_, rfl⟩
    have t1 := mw_41 (M := M) (S := S) (u := v) (x := nI s2.length)
    rw [← z1] at t1
    have a1 : Ag [41] [] v v1 := by rw [z1]; exact Ag_ui _ _ (by decide)
    obtain ⟨v2, d1, d2, d3, d4⟩ := q_gone (M := M) (S := S) (g2.ag a1) (by rw [z1, ui_1, if_pos rfl]) hB2
    have hB3 : B4 (s2.filter fun g => g.2.any fun p => !p.2) := ⟨Nat.le_trans (List.length_filter_le _ _) hB2.1, fun g hg => hB2.2 g (List.mem_filter.mp hg).1⟩
    obtain ⟨v3, e1, e2, e3, e4⟩ := q_join (M := M) (S := S) d3 d4 hB3
    rw [← hsto] at e3 e4
    have agA : Ag [37, 41] [27, 28, 29, 30] u v3 := Ag_tr (Ag_up g1 (by decide) (by decide)) (Ag_tr (Ag_up a1 (by decide) (by decide)) (Ag_tr (Ag_up d2 (by decide) (by decide)) (Ag_up e2 (by decide) (by decide))))
    have ag30 : v3.2 30 = v.2 30 := by rw [e2.2 30 (by decide), d2.2 30 (by decide), a1.2 30 (by decide)]
    refine ⟨v3, ?_, ⟨⟨hf.ag agA, hr.ag agA, he.ag agA, ha.ag agA, ⟨e4, ?_⟩, ?_, hnn.ag agA⟩, hz.ag agA⟩, agA.1 0 (by decide)⟩
    · simp only [n_X3_indexes]
      rw [g5]
      simp only [n_X3_indexes_b93]
      have : nI L + b2i (!rd.isEmpty) = nI s2.length := by
        rw [hs2l]
        cases rd.isEmpty with
        | true => simp [b2i_f]
        | false => simp [b2i_t, nI_1]
      rw [this, t1]
      simp only [ob_s, mI_41]
      rw [show v1.1 41 = nI s2.length by rw [z1, ui_1, if_pos rfl], d1, e1]
    · show RMp (pnd (zE s) 0 (plF (stoS s id) 0)) v3
      have : pnd (zE s) 0 (plF (stoS s id) 0) = plF (stoS s id) 0 := by
        unfold pnd
        simp [tb_0]
      rw [this]; exact e3
    · show RMw (zE s) 0 v3
      intro k hk
      rw [ag30, tb_0]
      by_cases hkm : k < fMd (zF s)
      · rw [g3 k hkm]; rfl
      · rw [g4 k (by omega), hw k hk, hno k (by omega)]; simp
  · intro m k v hk ⟨g1, g2, g3, g4⟩
    have k60 : k < 60 := by omega
    have hmd : v.1 2 = nI (fMd (zF s)) := by rw [g1.1 2 (by decide)]; exact hf.1
    have h41 : v.1 41 = nI L := by rw [g1.1 41 (by decide), hsg.1, eL]
    have h30 : v.2 30 k = b2i (tb (zW s) k && (zE s k).isSome) := by rw [g4 k (Nat.le_refl _)]; exact hw k k60
    have h73 : ∀ (x : Int32) (w : MM), n_X3_indexes_b73 (n_X3_indexes_b4 m) (mput M S w) (some M) x (nI k) = n_X3_indexes_b4 m (mput M S w) (some M) x (nI (k + 1)) := fun x w => by simp only [n_X3_indexes_b73, nI_1]
    have hlr := rdL_len (en := zE s) (x := zW s) k
    obtain ⟨Pk, ePk⟩ : ∃ Pk, Pk = plF s1 0 ++ (rdL (zW s) (zE s) k).map fun j => ((L, j, false) : PlV) := ⟨_, rfl⟩
    rw [← ePk] at g2
    have hPl : Pk.length < 600 := by rw [ePk]; simp; omega
    have hstart : n_X3_indexes_b4 (m + 1) (mput M S v) (some M) (b2i (!(rdL (zW s) (zE s) k).isEmpty)) (nI k) = if (tb (zW s) k && (zE s k).isSome) = false then n_X3_indexes_b4 m (mput M S v) (some M) (b2i (!(rdL (zW s) (zE s) k).isEmpty)) (nI (k + 1)) else n_X3_indexes_b4 m (mput M S (ua (ui (ua (ua (ua v 27 Pk.length (nI L)) 28 Pk.length (nI k)) 29 Pk.length (b2i false)) 37 (nI (Pk.length + 1))) 30 k (b2i false))) (some M) (b2i true) (nI (k + 1)) := by
      have t1 := ms_27 (M := M) (S := S) (u := v) (i := Pk.length) (x := nI L) hPl
      have t2 := ms_28 (M := M) (S := S) (u := ua v 27 Pk.length (nI L)) (i := Pk.length) (x := nI k) hPl
      have t3 := ms_29 (M := M) (S := S) (u := ua (ua v 27 Pk.length (nI L)) 28 Pk.length (nI k)) (i := Pk.length) false hPl
      have t4 := mw_37 (M := M) (S := S) (u := ua (ua (ua v 27 Pk.length (nI L)) 28 Pk.length (nI k)) 29 Pk.length (b2i false)) (x := nI (Pk.length + 1))
      have t5 := ms_30 (M := M) (S := S) (u := ui (ua (ua (ua v 27 Pk.length (nI L)) 28 Pk.length (nI k)) 29 Pk.length (b2i false)) 37 (nI (Pk.length + 1))) false k60
      simp only [n_X3_indexes_b4, mI_2, ob_s, hmd, nI_leE hzl (show k < 2 ^ 31 by omega), mR_42, ma_30 k60, h30, b2i_0, h73, mR_38, mI_37, g2.1, mI_41, h41, t1, mR_39, ua_1, t2, mR_40, show (0 : Int32) = b2i false from rfl, t3, nI_1, t4, t5]
      rw [if_neg (by omega)]
      have hbb : ∀ z : Bool, (b2i z = b2i false) = (z = false) := fun z => by cases z <;> simp [b2i]
      simp only [hbb]
      rfl
    rw [hstart]
    by_cases c : (tb (zW s) k && (zE s k).isSome) = true
    · rw [if_neg (by rw [c]; decide)]
      have er : rdL (zW s) (zE s) (k + 1) = rdL (zW s) (zE s) k ++ [k] := by simp only [rdL]; rw [if_pos c]
      have ag5 : Ag [37] [27, 28, 29, 30] v (ua (ui (ua (ua (ua v 27 Pk.length (nI L)) 28 Pk.length (nI k)) 29 Pk.length (b2i false)) 37 (nI (Pk.length + 1))) 30 k (b2i false)) := Ag_tr (Ag_tr (Ag_tr (Ag_tr (Ag_ua _ _ _ (by decide)) (Ag_ua _ _ _ (by decide))) (Ag_ua _ _ _ (by decide))) (Ag_ui _ _ (by decide))) (Ag_ua _ _ _ (by decide))
      refine ⟨_, ⟨Ag_tr g1 ag5, ?_, fun j hj => ?_, fun j hj => ?_⟩, ?_⟩
      · rw [er, List.map_append, ← List.append_assoc, ← ePk]
        refine ⟨by simp [ua_1, ui_1], fun i p hi => ?_⟩
        rw [List.getElem?_append] at hi
        split at hi
        · next hlt =>
          have hne : ¬ i = Pk.length := by omega
          simpa [ua_2, ui_2, hne] using g2.2 i p hi
        · next hge =>
          have hi2 : i = Pk.length := by
            have := (List.getElem?_eq_some_iff.mp hi).1
            simp at this; omega
          subst hi2
          simp at hi
          subst hi
          simp [ua_2, ui_2]
      · rw [ua_2]
        by_cases e : j = k
        · subst e; rw [if_pos ⟨rfl, rfl⟩]
        · rw [if_neg (by simp [e]), ui_2]; simp only [ua_2]; simp; exact g3 j (by omega)
      · rw [ua_2, if_neg (by simp; omega), ui_2]; simp only [ua_2]; simp; exact g4 j (by omega)
      · have : (!(rdL (zW s) (zE s) (k + 1)).isEmpty) = true := by rw [er]; simp
        simp only [this]
    · have c' : (tb (zW s) k && (zE s k).isSome) = false := by simpa using c
      rw [if_pos c']
      have er : rdL (zW s) (zE s) (k + 1) = rdL (zW s) (zE s) k := by simp only [rdL]; rw [if_neg c]
      refine ⟨v, ⟨g1, by rw [er, ← ePk]; exact g2, fun j hj => ?_, fun j hj => g4 j (by omega)⟩, by simp only [er]⟩
      by_cases e : j = k
      · subst e; rw [h30, c']
      · exact g3 j (by omega)
  · intro m v ⟨g1, g2, g3, g4⟩
    have hmd : v.1 2 = nI (fMd (zF s)) := by rw [g1.1 2 (by decide)]; exact hf.1
    have h41 : v.1 41 = nI L := by rw [g1.1 41 (by decide), hsg.1, eL]
    rw [← erd2] at g2
    refine ⟨v, ⟨g1, g2, g3, g4⟩, ?_⟩
    simp only [n_X3_indexes_b4, mI_2, ob_s, hmd, nI_leE hzl hzl, Nat.le_refl, if_true, mI_41, h41, b2i_0, ← erd2]
    cases rd.isEmpty <;> rfl
end
