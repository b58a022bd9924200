/-! the keeper: watch, notices, twice, lose, pass, battery, limits, crawl_2, acts, isQuiet, entries, edition, stale, segments, dead, init -/
def n_X6_init (S : St) (x0 : Option Nat) (x1 : Option Nat) : Option (Unit × St) :=
  gd (x0).isSome <|
  nwB S (cO 9 [vI 0, vI 0, vR none, vR none]) 4 fun q1 S2 =>
  gd (q1).isSome <|
  bn (h_J4_init S2 q1) fun _ S3 =>
  (pR S3 x0 4 1 q1).bind fun S5 =>
  nwB S5 (cO 10 [vR none, vI 0, vI 0]) 3 fun q6 S7 =>
  gd (q6).isSome <|
  bn (h_J5_init S7 q6 (60 : Int32)) fun _ S8 =>
  (pR S8 x0 4 4 q6).bind fun S10 =>
  (pR S10 x0 4 0 x1).bind fun S11 =>
  some ((), S11)
theorem w_X6_init_b0m {K : KT} {r : Unit} {S1 : St} (C : GC K RX6 cX6_init 2 6 []) (E : EH (kΓ K) (kHI K) (kl K)) (Q : GQ K none (.inl none) S1) (hnm : kLv K → (kme K).name = "<init>") : ∀ (S : St) (x0 : Option Nat) (x1 : Option Nat), n_X6_init S x0 x1 = some (r, S1) → G K 2 S 0 [(0, vR x0), (1, vR x1)] [] := by
  intro S x0 x1 hd
  unfold n_X6_init at hd
  refine g_aload_n C dX6_init_0 rfl 0 rfl ?_
  obtain ⟨hg, hd⟩ := gd_some hd
  refine g_objInit C q1431 q149 q150 (by decide) dX6_init_1 hg (Nat.le_of_ble_eq_true rfl) ?_
  refine g_aload_n C dX6_init_4 rfl 0 rfl ?_
  refine g_new C gk_J4 (fun j hj => gdf_J4 j hj) q1432 q185 q100 dX6_init_5 hd (fun q1 S2 hd => ?_)
  refine g_dup C dX6_init_8 rfl ?_
  obtain ⟨hg, hd⟩ := gd_some hd
  obtain ⟨_, S3, hc, hd⟩ := bn_some hd
  refine g_cI_n (n := 0) C q1433 q187 q100 q188 rfl (by decide +kernel) (by decide) (by decide) dX6_init_9 (As := []) (rest := [vR q1, vR x0]) rfl rfl (Nat.le_of_ble_eq_true rfl) hg (mh_J4_init E hc) ?_
  obtain ⟨S5, hS5, hd⟩ := Option.bind_eq_some_iff.mp hd
  refine g_putF C gk_X6 (k := 1) (by decide) q1438 rfl rfl hnm rfl dX6_init_12 (fit_ref _ (Or.inl ⟨_, rfl⟩)).1 (fit_ref _ (Or.inl ⟨_, rfl⟩)).2 hS5 ?_
  refine g_aload_n C dX6_init_15 rfl 0 rfl ?_
  refine g_new C gk_J5 (fun j hj => gdf_J5 j hj) q1434 q208 q101 dX6_init_16 hd (fun q6 S7 hd => ?_)
  refine g_dup C dX6_init_19 rfl ?_
  refine g_bipush (v := 60) C dX6_init_20 (by decide) ?_
  obtain ⟨hg, hd⟩ := gd_some hd
  obtain ⟨_, S8, hc, hd⟩ := bn_some hd
  refine g_cI_n (n := 1) C q1435 q210 q101 q211 rfl (by decide +kernel) (by decide) (by decide) dX6_init_22 (As := [vI (60 : Int32)]) (rest := [vR q6, vR x0]) rfl rfl (Nat.le_of_ble_eq_true rfl) hg (mh_J5_init E hc) ?_
  obtain ⟨S10, hS10, hd⟩ := Option.bind_eq_some_iff.mp hd
  refine g_putF C gk_X6 (k := 4) (by decide) q1444 rfl rfl hnm rfl dX6_init_25 (fit_ref _ (Or.inl ⟨_, rfl⟩)).1 (fit_ref _ (Or.inl ⟨_, rfl⟩)).2 hS10 ?_
  refine g_aload_n C dX6_init_28 rfl 0 rfl ?_
  refine g_aload_n C dX6_init_29 rfl 1 rfl ?_
  obtain ⟨S11, hS11, hd⟩ := Option.bind_eq_some_iff.mp hd
  refine g_putF C gk_X6 (k := 0) (by decide) q1436 rfl rfl hnm rfl dX6_init_30 (fit_ref _ (Or.inl ⟨_, rfl⟩)).1 (fit_ref _ (Or.inl ⟨_, rfl⟩)).2 hS11 ?_
  exact g_vret C Q hd dX6_init_33
theorem m_X6_init {Γ : GG} {HI : St → Heap → Prop} {l : Launch} (E : EH Γ HI l) {S : St} {a0 : Option Nat} {a1 : Option Nat} {r : Unit} {S1 : St} (h : n_X6_init S a0 a1 = some (r, S1)) : MS Γ HI l yX6_init cX6_init 2 none 6 S [vR a0, vR a1] (.inl none) S1 := by
  refine MS_of E.ntr E.hx (by decide +kernel) rfl (Nat.le_of_ble_eq_true rfl) fun K e1 e2 e3 e4 hnm C Q => ?_
  subst e1; subst e2; subst e3
  exact w_X6_init_b0m C E Q (by exact hnm) S a0 a1 h

def n_X6_begin (S : St) (x0 : Option Nat) : Option (Unit × St) :=
  nwB S (cO 14 [vR none, vI 0, vI 0]) 3 fun q1 S2 =>
  gd (q1).isSome <|
  bn (h_J33_init S2 q1) fun _ S3 =>
  (pR S3 x0 4 3 q1).bind fun S5 =>
  (gR S5 x0 4 3).bind fun v6 =>
  (gR S5 x0 4 0).bind fun v7 =>
  gd (grc S5 v6 14) <|
  bn (h_J33_add S5 v6 v7) fun v9 S8 =>
  (gR S8 x0 4 4).bind fun v10 =>
  gd (grc S8 v10 10) <|
  bn (h_J5_clear S8 v10) fun _ S11 =>
  some ((), S11)
theorem w_X6_begin_b0m {K : KT} {r : Unit} {S1 : St} (C : GC K RX6 cX6_begin 1 8 []) (E : EH (kΓ K) (kHI K) (kl K)) (Q : GQ K none (.inl none) S1) : ∀ (S : St) (x0 : Option Nat), n_X6_begin S x0 = some (r, S1) → G K 1 S 0 [(0, vR x0)] [] := by
  intro S x0 hd
  unfold n_X6_begin at hd
  refine g_aload_n C dX6_begin_0 rfl 0 rfl ?_
  refine g_new C gk_J33 (fun j hj => gdf_J33 j hj) q1461 q1462 q138 dX6_begin_1 hd (fun q1 S2 hd => ?_)
  refine g_dup C dX6_begin_4 rfl ?_
  obtain ⟨hg, hd⟩ := gd_some hd
  obtain ⟨_, S3, hc, hd⟩ := bn_some hd
  refine g_cI_n (n := 0) C q1463 q1464 q138 q1465 rfl (by decide +kernel) (by decide) (by decide) dX6_begin_5 (As := []) (rest := [vR q1, vR x0]) rfl rfl (Nat.le_of_ble_eq_true rfl) hg (mh_J33_init E hc) ?_
  obtain ⟨S5, hS5, hd⟩ := Option.bind_eq_some_iff.mp hd
  refine g_put C gk_X6 (k := 3) (by decide) q1442 (Or.inl rfl) rfl dX6_begin_8 (fit_ref _ (Or.inl ⟨_, rfl⟩)).1 (fit_ref _ (Or.inl ⟨_, rfl⟩)).2 hS5 ?_
  refine g_aload_n C dX6_begin_11 rfl 0 rfl ?_
  obtain ⟨v6, hv6, hd⟩ := Option.bind_eq_some_iff.mp hd
  refine g_fld C gk_X6 (k := 3) (by decide) q1442 (Or.inl rfl) dX6_begin_12 (gR_v hv6) ?_
  refine g_aload_n C dX6_begin_15 rfl 0 rfl ?_
  obtain ⟨v7, hv7, hd⟩ := Option.bind_eq_some_iff.mp hd
  refine g_fld C gk_X6 (k := 0) (by decide) q1436 (Or.inl rfl) dX6_begin_16 (gR_v hv7) ?_
  obtain ⟨hg, hd⟩ := gd_some hd
  obtain ⟨v9, S8, hc, hd⟩ := bn_some hd
  refine g_cV_v (n := 1) C (gk_J33).1 q1478 q1479 q1480 q138 q1481 (by decide +kernel) (by decide) (by decide) dX6_begin_19 (As := [vR v7]) (rest := []) rfl rfl (Nat.le_of_ble_eq_true rfl) hg (mh_J33_add E hc) ?_
  refine g_pop C dX6_begin_22 rfl ?_
  refine g_aload_n C dX6_begin_23 rfl 0 rfl ?_
  obtain ⟨v10, hv10, hd⟩ := Option.bind_eq_some_iff.mp hd
  refine g_fld C gk_X6 (k := 4) (by decide) q1444 (Or.inl rfl) dX6_begin_24 (gR_v hv10) ?_
  obtain ⟨hg, hd⟩ := gd_some hd
  obtain ⟨_, S11, hc, hd⟩ := bn_some hd
  refine g_cV_n (n := 0) C (gk_J5).1 q1507 q1508 q1509 q101 q1510 (by decide +kernel) (by decide) (by decide) dX6_begin_27 (As := []) (rest := []) rfl rfl (Nat.le_of_ble_eq_true rfl) hg (mh_J5_clear E hc) ?_
  exact g_vret C Q hd dX6_begin_30
theorem m_X6_begin {Γ : GG} {HI : St → Heap → Prop} {l : Launch} (E : EH Γ HI l) {S : St} {a0 : Option Nat} {r : Unit} {S1 : St} (h : n_X6_begin S a0 = some (r, S1)) : MS Γ HI l yX6_begin cX6_begin 1 none 8 S [vR a0] (.inl none) S1 := by
  refine MS_of E.ntr E.hx (by decide +kernel) rfl (Nat.le_of_ble_eq_true rfl) fun K e1 e2 e3 e4 hnm C Q => ?_
  subst e1; subst e2; subst e3
  exact w_X6_begin_b0m C E Q S a0 h

def n_X1_watch_b148 (k92 : St → Option Nat → Option Nat → Int32 → Option Nat → Option ((Int32 ⊕ String) × St)) (S : St) (x0 : Option Nat) (x2 : Option Nat) (x5 : Option Nat) (y0 : Int32) : Option ((Int32 ⊕ String) × St) :=
  k92 S x0 x2 y0 x5
def n_X1_watch_b147 (k92 : St → Option Nat → Option Nat → Int32 → Option Nat → Option ((Int32 ⊕ String) × St)) (S : St) (x0 : Option Nat) (x2 : Option Nat) (x5 : Option Nat) : Option ((Int32 ⊕ String) × St) :=
  n_X1_watch_b148 k92 S x0 x2 x5 (0 : Int32)
def n_X1_watch_b92 : Nat → St → Option Nat → Option Nat → Int32 → Option Nat → Option ((Int32 ⊕ String) × St)
  | 0 => fun _ _ _ _ _ => none
  | n + 1 => fun S x0 x2 x4 x5 =>
    gd (grc S x5 13) <|
    bn (h_J29_hasNext S x5) fun v2 S1 =>
    if v2 = 0 then
      tbn (n_X1_possible S1 x4) fun _ S3 =>
      nwB S3 (cO 4 [vR none, vR none, vI 0, vR none, vR none]) 5 fun q5 S6 =>
      gd (q5).isSome <|
      bn (n_X6_init S6 q5 x2) fun _ S7 =>
      gd (grc S7 q5 4) <|
      bn (n_X6_begin S7 q5) fun _ S9 =>
      (gR S9 x0 0 1).bind fun v11 =>
      gd (grc S9 v11 9) <|
      bn (h_J4_add S9 v11 q5) fun v13 S12 =>
      (gR S12 x0 0 1).bind fun v14 =>
      gd (grc S12 v14 9) <|
      bn (h_J4_size S12 v14) fun v16 S15 =>
      rtI Sum.inl (Jvm.ClassFile.FieldType.int) v16 S15
    else
      gd (grc S1 x5 13) <|
      bn (h_J29_next S1 x5) fun v18 S17 =>
      gd (gcst S17 v18 4) <|
      if x4 = 0 then
        n_X1_watch_b147 (n_X1_watch_b92 n) S17 x0 x2 x5
      else
        (gR S17 v18 4 0).bind fun v19 =>
        gd (grc S17 v19 1) <|
        bn (n_X2_isBelow S17 v19 x2) fun v21 S20 =>
        if v21 = 0 then
          (gR S20 v18 4 0).bind fun v22 =>
          gd (grc S20 x2 1) <|
          bn (n_X2_isBelow S20 x2 v22) fun v24 S23 =>
          if v24 = 0 then
            n_X1_watch_b148 (n_X1_watch_b92 n) S23 x0 x2 x5 (1 : Int32)
          else
            n_X1_watch_b147 (n_X1_watch_b92 n) S23 x0 x2 x5
        else
          n_X1_watch_b147 (n_X1_watch_b92 n) S20 x0 x2 x5
def n_X1_watch_b79 (S : St) (x0 : Option Nat) (x2 : Option Nat) (y0 : Int32) : Option ((Int32 ⊕ String) × St) :=
  (gR S x0 0 1).bind fun v1 =>
  gd (grc S v1 9) <|
  bn (h_J3_iterator S v1) fun v3 S2 =>
  n_X1_watch_b92 FU S2 x0 x2 y0 v3
def n_X1_watch_b16 : Nat → St → Option Nat → Option Nat → Option Nat → Option ((Int32 ⊕ String) × St)
  | 0 => fun _ _ _ _ => none
  | n + 1 => fun S x0 x2 x3 =>
    gd (grc S x3 13) <|
    bn (h_J29_hasNext S x3) fun v2 S1 =>
    if v2 = 0 then
      (gR S1 x0 0 1).bind fun v3 =>
      gd (grc S1 v3 9) <|
      bn (h_J4_size S1 v3) fun v5 S4 =>
      if (3 : Int32) ≤ v5 then
        n_X1_watch_b79 S4 x0 x2 (0 : Int32)
      else
        n_X1_watch_b79 S4 x0 x2 (1 : Int32)
    else
      gd (grc S1 x3 13) <|
      bn (h_J29_next S1 x3) fun v7 S6 =>
      gd (gcst S6 v7 4) <|
      (gR S6 v7 4 0).bind fun v8 =>
      if v8 = x2 then
        gd (grc S6 x3 13) <|
        bn (h_J29_remove S6 x3) fun _ S9 =>
        gd (grc S9 x0 0) <|
        bn (n_X1_lookAtAll S9 x0) fun _ S11 =>
        (gR S11 x0 0 1).bind fun v13 =>
        gd (grc S11 v13 9) <|
        bn (h_J4_size S11 v13) fun v15 S14 =>
        rtI Sum.inl (Jvm.ClassFile.FieldType.int) v15 S14
      else
        (n_X1_watch_b16 n) S6 x0 x2 x3
def n_X1_watch (S : St) (x0 : Option Nat) (x1 : Int32) : Option ((Int32 ⊕ String) × St) :=
  gd (grc S x0 0) <|
  tbn (n_X1_folderAt S x0 x1) fun v2 S1 =>
  (gR S1 x0 0 1).bind fun v3 =>
  gd (grc S1 v3 9) <|
  bn (h_J3_iterator S1 v3) fun v5 S4 =>
  n_X1_watch_b16 FU S4 x0 v2 v5
theorem w_X1_watch_b148 {K : KT} {r : (Int32 ⊕ String)} {S1 : St} (C : GC K RX1 cX1_watch 7 10 []) (E : EH (kΓ K) (kHI K) (kl K)) (Q : GQ K (some (Jvm.ClassFile.FieldType.int)) (resI r) S1) {k92 : St → Option Nat → Option Nat → Int32 → Option Nat → Option ((Int32 ⊕ String) × St)} (h92 : ∀ (S : St) (x0 : Option Nat) (x2 : Option Nat) (x4 : Int32) (x5 : Option Nat), k92 S x0 x2 x4 x5 = some (r, S1) → G K 7 S 92 [(0, vR x0), (2, vR x2), (4, vI x4), (5, vR x5)] []) : ∀ (S : St) (x0 : Option Nat) (x2 : Option Nat) (x5 : Option Nat) (y0 : Int32), n_X1_watch_b148 k92 S x0 x2 x5 y0 = some (r, S1) → G K 7 S 148 [(0, vR x0), (2, vR x2), (5, vR x5)] [vI y0] := by
  intro S x0 x2 x5 y0 hd
  unfold n_X1_watch_b148 at hd
  refine g_istore (L' := [(4, vI y0), (0, vR x0), (2, vR x2), (5, vR x5)]) C dX1_watch_148 (by decide) rfl ?_
  refine g_goto (tgt := 92) C dX1_watch_150 (by decide) ?_
  refine g_sub [1, 2, 0, 3] rfl ?_
  exact h92 _ _ _ _ _ hd
theorem w_X1_watch_b147 {K : KT} {r : (Int32 ⊕ String)} {S1 : St} (C : GC K RX1 cX1_watch 7 10 []) (E : EH (kΓ K) (kHI K) (kl K)) (Q : GQ K (some (Jvm.ClassFile.FieldType.int)) (resI r) S1) {k92 : St → Option Nat → Option Nat → Int32 → Option Nat → Option ((Int32 ⊕ String) × St)} (h92 : ∀ (S : St) (x0 : Option Nat) (x2 : Option Nat) (x4 : Int32) (x5 : Option Nat), k92 S x0 x2 x4 x5 = some (r, S1) → G K 7 S 92 [(0, vR x0), (2, vR x2), (4, vI x4), (5, vR x5)] []) : ∀ (S : St) (x0 : Option Nat) (x2 : Option Nat) (x5 : Option Nat), n_X1_watch_b147 k92 S x0 x2 x5 = some (r, S1) → G K 7 S 147 [(0, vR x0), (2, vR x2), (5, vR x5)] [] := by
  intro S x0 x2 x5 hd
  unfold n_X1_watch_b147 at hd
  refine g_iconst (v := 0) C dX1_watch_147 (by decide) ?_
  refine g_sub [0, 1, 2] rfl ?_
  exact w_X1_watch_b148 C E Q h92 _ _ _ _ _ hd
theorem w_X1_watch_b92 {K : KT} {r : (Int32 ⊕ String)} {S1 : St} (C : GC K RX1 cX1_watch 7 10 []) (E : EH (kΓ K) (kHI K) (kl K)) (Q : GQ K (some (Jvm.ClassFile.FieldType.int)) (resI r) S1) : ∀ (n : Nat) (S : St) (x0 : Option Nat) (x2 : Option Nat) (x4 : Int32) (x5 : Option Nat), n_X1_watch_b92 n S x0 x2 x4 x5 = some (r, S1) → G K 7 S 92 [(0, vR x0), (2, vR x2), (4, vI x4), (5, vR x5)] [] := by
  intro n
  induction n with
  | zero => intro S x0 x2 x4 x5 hd; cases hd
  | succ n ih =>
    intro S x0 x2 x4 x5 hd
    unfold n_X1_watch_b92 at hd
    refine g_aload C dX1_watch_92 3 rfl ?_
    obtain ⟨hg, hd⟩ := gd_some hd
    obtain ⟨v2, S1, hc, hd⟩ := bn_some hd
    refine g_cF_v (n := 0) C (gk_J29).1 q925 q951 q949 q129 q953 (List.mem_of_getElem? (i := 12) rfl) (by decide +kernel) (by decide) (by decide) dX1_watch_94 (As := []) (rest := []) rfl rfl (Nat.le_of_ble_eq_true rfl) hg (mh_J29_hasNext E hc) ?_
    refine g_if_eq (tgt := 153) C dX1_watch_99 (by decide) hd (fun hd => ?_) (fun hd => ?_)
    · refine g_iload C dX1_watch_153 2 rfl ?_
      rcases tbn_some hd with ⟨X9, S3, hc, hz⟩ | ⟨_, S3, hc, hd⟩
      · cases hz; exact g_cS_x (n := 1) C q1162 q1163 q95 q1164 (by decide +kernel) (by decide) (by decide) dX1_watch_155 (As := [vI x4]) (rest := []) rfl rfl (Nat.le_of_ble_eq_true rfl) (m_X1_possible E hc) (g_out C Q)
      refine g_cS_n (n := 1) C q1162 q1163 q95 q1164 (by decide +kernel) (by decide) (by decide) dX1_watch_155 (As := [vI x4]) (rest := []) rfl rfl (Nat.le_of_ble_eq_true rfl) (m_X1_possible E hc) ?_
      refine g_new C gk_X6 (fun j hj => gdf_X6 j hj) q1055 q1427 q137 dX1_watch_158 hd (fun q5 S6 hd => ?_)
      refine g_dup C dX1_watch_161 rfl ?_
      refine g_aload_n C dX1_watch_162 rfl 1 rfl ?_
      obtain ⟨hg, hd⟩ := gd_some hd
      obtain ⟨_, S7, hc, hd⟩ := bn_some hd
      refine g_cI_n (n := 1) C q1428 q1429 q137 q1430 rfl (by decide +kernel) (by decide) (by decide) dX1_watch_163 (As := [vR x2]) (rest := [vR q5]) rfl rfl (Nat.le_of_ble_eq_true rfl) hg (m_X6_init E hc) ?_
      refine g_astore (L' := [(5, vR q5), (0, vR x0), (2, vR x2), (4, vI x4)]) C dX1_watch_166 (by decide) rfl ?_
      refine g_aload C dX1_watch_168 0 rfl ?_
      obtain ⟨hg, hd⟩ := gd_some hd
      obtain ⟨_, S9, hc, hd⟩ := bn_some hd
      refine g_cV_n (n := 0) C (gk_X6).1 q1457 q1458 q1459 q137 q1460 (by decide +kernel) (by decide) (by decide) dX1_watch_170 (As := []) (rest := []) rfl rfl (Nat.le_of_ble_eq_true rfl) hg (m_X6_begin E hc) ?_
      refine g_aload_n C dX1_watch_173 rfl 1 rfl ?_
      obtain ⟨v11, hv11, hd⟩ := Option.bind_eq_some_iff.mp hd
      refine g_fld C gk_X1 (k := 1) (by decide) q386 (Or.inl rfl) dX1_watch_174 (gR_v hv11) ?_
      refine g_aload C dX1_watch_177 0 rfl ?_
      obtain ⟨hg, hd⟩ := gd_some hd
      obtain ⟨v13, S12, hc, hd⟩ := bn_some hd
      refine g_cF_v (n := 1) C (gk_J4).1 q274 q357 q355 q100 q359 (List.mem_of_getElem? (i := 15) rfl) (by decide +kernel) (by decide) (by decide) dX1_watch_179 (As := [vR q5]) (rest := []) rfl rfl (Nat.le_of_ble_eq_true rfl) hg (mh_J4_add E hc) ?_
      refine g_pop C dX1_watch_184 rfl ?_
      refine g_aload_n C dX1_watch_185 rfl 1 rfl ?_
      obtain ⟨v14, hv14, hd⟩ := Option.bind_eq_some_iff.mp hd
      refine g_fld C gk_X1 (k := 1) (by decide) q386 (Or.inl rfl) dX1_watch_186 (gR_v hv14) ?_
      obtain ⟨hg, hd⟩ := gd_some hd
      obtain ⟨v16, S15, hc, hd⟩ := bn_some hd
      refine g_cF_v (n := 0) C (gk_J4).1 q427 q437 q435 q100 q439 (List.mem_of_getElem? (i := 16) rfl) (by decide +kernel) (by decide) (by decide) dX1_watch_189 (As := []) (rest := []) rfl rfl (Nat.le_of_ble_eq_true rfl) hg (mh_J4_size E hc) ?_
      exact g_iretT C Q hd dX1_watch_194
    · refine g_aload C dX1_watch_102 3 rfl ?_
      obtain ⟨hg, hd⟩ := gd_some hd
      obtain ⟨v18, S17, hc, hd⟩ := bn_some hd
      refine g_cF_v (n := 0) C (gk_J29).1 q955 q1047 q1045 q129 q1049 (List.mem_of_getElem? (i := 13) rfl) (by decide +kernel) (by decide) (by decide) dX1_watch_104 (As := []) (rest := []) rfl rfl (Nat.le_of_ble_eq_true rfl) hg (mh_J29_next E hc) ?_
      refine g_cast C (gk_X6).1 q1055 dX1_watch_109 hd (fun hd => ?_)
      refine g_astore (L' := [(6, vR v18), (0, vR x0), (2, vR x2), (4, vI x4), (5, vR x5)]) C dX1_watch_112 (by decide) rfl ?_
      refine g_iload C dX1_watch_114 3 rfl ?_
      refine g_if_eq (tgt := 147) C dX1_watch_116 (by decide) hd (fun hd => ?_) (fun hd => ?_)
      · refine g_sub [1, 2, 4] rfl ?_
        exact w_X1_watch_b147 C E Q ih _ _ _ _ hd
      · refine g_aload C dX1_watch_119 0 rfl ?_
        obtain ⟨v19, hv19, hd⟩ := Option.bind_eq_some_iff.mp hd
        refine g_fldN C gk_X6 (k := 0) (by decide) q1437 rfl dX1_watch_121 (gR_v hv19) ?_
        refine g_aload_n C dX1_watch_124 rfl 2 rfl ?_
        obtain ⟨hg, hd⟩ := gd_some hd
        obtain ⟨v21, S20, hc, hd⟩ := bn_some hd
        refine g_cV_v (n := 1) C (gk_X2).1 q1084 q1085 q1086 q102 q1087 (by decide +kernel) (by decide) (by decide) dX1_watch_125 (As := [vR x2]) (rest := []) rfl rfl (Nat.le_of_ble_eq_true rfl) hg (m_X2_isBelow E hc) ?_
        refine g_if_ne (tgt := 147) C dX1_watch_128 (by decide) hd (fun hd => ?_) (fun hd => ?_)
        · refine g_sub [1, 2, 4] rfl ?_
          exact w_X1_watch_b147 C E Q ih _ _ _ _ hd
        · refine g_aload_n C dX1_watch_131 rfl 2 rfl ?_
          refine g_aload C dX1_watch_132 0 rfl ?_
          obtain ⟨v22, hv22, hd⟩ := Option.bind_eq_some_iff.mp hd
          refine g_fldN C gk_X6 (k := 0) (by decide) q1437 rfl dX1_watch_134 (gR_v hv22) ?_
          obtain ⟨hg, hd⟩ := gd_some hd
          obtain ⟨v24, S23, hc, hd⟩ := bn_some hd
          refine g_cV_v (n := 1) C (gk_X2).1 q1084 q1085 q1086 q102 q1087 (by decide +kernel) (by decide) (by decide) dX1_watch_137 (As := [vR v22]) (rest := []) rfl rfl (Nat.le_of_ble_eq_true rfl) hg (m_X2_isBelow E hc) ?_
          refine g_if_ne (tgt := 147) C dX1_watch_140 (by decide) hd (fun hd => ?_) (fun hd => ?_)
          · refine g_sub [1, 2, 4] rfl ?_
            exact w_X1_watch_b147 C E Q ih _ _ _ _ hd
          · refine g_iconst (v := 1) C dX1_watch_143 (by decide) ?_
            refine g_goto (tgt := 148) C dX1_watch_144 (by decide) ?_
            refine g_sub [1, 2, 4] rfl ?_
            exact w_X1_watch_b148 C E Q ih _ _ _ _ _ hd
theorem w_X1_watch_b79 {K : KT} {r : (Int32 ⊕ String)} {S1 : St} (C : GC K RX1 cX1_watch 7 10 []) (E : EH (kΓ K) (kHI K) (kl K)) (Q : GQ K (some (Jvm.ClassFile.FieldType.int)) (resI r) S1) : ∀ (S : St) (x0 : Option Nat) (x2 : Option Nat) (y0 : Int32), n_X1_watch_b79 S x0 x2 y0 = some (r, S1) → G K 7 S 79 [(0, vR x0), (2, vR x2)] [vI y0] := by
  intro S x0 x2 y0 hd
  unfold n_X1_watch_b79 at hd
  refine g_istore (L' := [(4, vI y0), (0, vR x0), (2, vR x2)]) C dX1_watch_79 (by decide) rfl ?_
  refine g_aload_n C dX1_watch_81 rfl 1 rfl ?_
  obtain ⟨v1, hv1, hd⟩ := Option.bind_eq_some_iff.mp hd
  refine g_fld C gk_X1 (k := 1) (by decide) q386 (Or.inl rfl) dX1_watch_82 (gR_v hv1) ?_
  obtain ⟨hg, hd⟩ := gd_some hd
  obtain ⟨v3, S2, hc, hd⟩ := bn_some hd
  refine g_cF_v (n := 0) C (gk_J4).1 q812 q843 q841 q99 q845 (List.mem_of_getElem? (i := 18) rfl) (by decide +kernel) (by decide) (by decide) dX1_watch_85 (As := []) (rest := []) rfl rfl (Nat.le_of_ble_eq_true rfl) hg (mh_J3_iterator E hc) ?_
  refine g_astore (L' := [(5, vR v3), (4, vI y0), (0, vR x0), (2, vR x2)]) C dX1_watch_90 (by decide) rfl ?_
  refine g_sub [2, 3, 1, 0] rfl ?_
  exact w_X1_watch_b92 C E Q FU _ _ _ _ _ hd
theorem w_X1_watch_b16 {K : KT} {r : (Int32 ⊕ String)} {S1 : St} (C : GC K RX1 cX1_watch 7 10 []) (E : EH (kΓ K) (kHI K) (kl K)) (Q : GQ K (some (Jvm.ClassFile.FieldType.int)) (resI r) S1) : ∀ (n : Nat) (S : St) (x0 : Option Nat) (x2 : Option Nat) (x3 : Option Nat), n_X1_watch_b16 n S x0 x2 x3 = some (r, S1) → G K 7 S 16 [(0, vR x0), (2, vR x2), (3, vR x3)] [] := by
  intro n
  induction n with
  | zero => intro S x0 x2 x3 hd; cases hd
  | succ n ih =>
    intro S x0 x2 x3 hd
    unfold n_X1_watch_b16 at hd
    refine g_aload_n C dX1_watch_16 rfl 2 rfl ?_
    obtain ⟨hg, hd⟩ := gd_some hd
    obtain ⟨v2, S1, hc, hd⟩ := bn_some hd
    refine g_cF_v (n := 0) C (gk_J29).1 q925 q951 q949 q129 q953 (List.mem_of_getElem? (i := 12) rfl) (by decide +kernel) (by decide) (by decide) dX1_watch_17 (As := []) (rest := []) rfl rfl (Nat.le_of_ble_eq_true rfl) hg (mh_J29_hasNext E hc) ?_
    refine g_if_eq (tgt := 61) C dX1_watch_22 (by decide) hd (fun hd => ?_) (fun hd => ?_)
    · refine g_aload_n C dX1_watch_61 rfl 0 rfl ?_
      obtain ⟨v3, hv3, hd⟩ := Option.bind_eq_some_iff.mp hd
      refine g_fld C gk_X1 (k := 1) (by decide) q386 (Or.inl rfl) dX1_watch_62 (gR_v hv3) ?_
      obtain ⟨hg, hd⟩ := gd_some hd
      obtain ⟨v5, S4, hc, hd⟩ := bn_some hd
      refine g_cF_v (n := 0) C (gk_J4).1 q427 q437 q435 q100 q439 (List.mem_of_getElem? (i := 16) rfl) (by decide +kernel) (by decide) (by decide) dX1_watch_65 (As := []) (rest := []) rfl rfl (Nat.le_of_ble_eq_true rfl) hg (mh_J4_size E hc) ?_
      refine g_iconst (v := 3) C dX1_watch_70 (by decide) ?_
      refine g_icmp_ge (tgt := 78) C dX1_watch_71 (by decide) hd (fun hd => ?_) (fun hd => ?_)
      · refine g_iconst (v := 0) C dX1_watch_78 (by decide) ?_
        refine g_sub [0, 1] rfl ?_
        exact w_X1_watch_b79 C E Q _ _ _ _ hd
      · refine g_iconst (v := 1) C dX1_watch_74 (by decide) ?_
        refine g_goto (tgt := 79) C dX1_watch_75 (by decide) ?_
        refine g_sub [0, 1] rfl ?_
        exact w_X1_watch_b79 C E Q _ _ _ _ hd
    · refine g_aload_n C dX1_watch_25 rfl 2 rfl ?_
      obtain ⟨hg, hd⟩ := gd_some hd
      obtain ⟨v7, S6, hc, hd⟩ := bn_some hd
      refine g_cF_v (n := 0) C (gk_J29).1 q955 q1047 q1045 q129 q1049 (List.mem_of_getElem? (i := 13) rfl) (by decide +kernel) (by decide) (by decide) dX1_watch_26 (As := []) (rest := []) rfl rfl (Nat.le_of_ble_eq_true rfl) hg (mh_J29_next E hc) ?_
      refine g_cast C (gk_X6).1 q1055 dX1_watch_31 hd (fun hd => ?_)
      obtain ⟨v8, hv8, hd⟩ := Option.bind_eq_some_iff.mp hd
      refine g_fldN C gk_X6 (k := 0) (by decide) q1437 rfl dX1_watch_34 (gR_v hv8) ?_
      refine g_aload_n C dX1_watch_37 rfl 1 rfl ?_
      refine g_acmp_ne (tgt := 16) C dX1_watch_38 (by decide) hd (fun hd => ?_) (fun hd => ?_)
      · refine g_sub [0, 1, 2] rfl ?_
        exact ih _ _ _ _ hd
      · refine g_aload_n C dX1_watch_41 rfl 2 rfl ?_
        obtain ⟨hg, hd⟩ := gd_some hd
        obtain ⟨_, S9, hc, hd⟩ := bn_some hd
        refine g_cF_n (n := 0) C (gk_J29).1 q1299 q1355 q1353 q129 q1357 (List.mem_of_getElem? (i := 14) rfl) (by decide +kernel) (by decide) (by decide) dX1_watch_42 (As := []) (rest := []) rfl rfl (Nat.le_of_ble_eq_true rfl) hg (mh_J29_remove E hc) ?_
        refine g_aload_n C dX1_watch_47 rfl 0 rfl ?_
        obtain ⟨hg, hd⟩ := gd_some hd
        obtain ⟨_, S11, hc, hd⟩ := bn_some hd
        refine g_cV_n (n := 0) C (gk_X1).1 q1361 q1363 qs23 q95 q1364 (by decide +kernel) (by decide) (by decide) dX1_watch_48 (As := []) (rest := []) rfl rfl (Nat.le_of_ble_eq_true rfl) hg (m_X1_lookAtAll E hc) ?_
        refine g_aload_n C dX1_watch_51 rfl 0 rfl ?_
        obtain ⟨v13, hv13, hd⟩ := Option.bind_eq_some_iff.mp hd
        refine g_fld C gk_X1 (k := 1) (by decide) q386 (Or.inl rfl) dX1_watch_52 (gR_v hv13) ?_
        obtain ⟨hg, hd⟩ := gd_some hd
        obtain ⟨v15, S14, hc, hd⟩ := bn_some hd
        refine g_cF_v (n := 0) C (gk_J4).1 q427 q437 q435 q100 q439 (List.mem_of_getElem? (i := 16) rfl) (by decide +kernel) (by decide) (by decide) dX1_watch_55 (As := []) (rest := []) rfl rfl (Nat.le_of_ble_eq_true rfl) hg (mh_J4_size E hc) ?_
        exact g_iretT C Q hd dX1_watch_60
theorem w_X1_watch_b0m {K : KT} {r : (Int32 ⊕ String)} {S1 : St} (C : GC K RX1 cX1_watch 7 10 []) (E : EH (kΓ K) (kHI K) (kl K)) (Q : GQ K (some (Jvm.ClassFile.FieldType.int)) (resI r) S1) : ∀ (S : St) (x0 : Option Nat) (x1 : Int32), n_X1_watch S x0 x1 = some (r, S1) → G K 7 S 0 [(0, vR x0), (1, vI x1)] [] := by
  intro S x0 x1 hd
  unfold n_X1_watch at hd
  refine g_aload_n C dX1_watch_0 rfl 0 rfl ?_
  refine g_iload_n C dX1_watch_1 rfl 1 rfl ?_
  obtain ⟨hg, hd⟩ := gd_some hd
  rcases tbn_some hd with ⟨X9, S1, hc, hz⟩ | ⟨v2, S1, hc, hd⟩
  · cases hz; exact g_cV_x (n := 1) C (gk_X1).1 q1122 q1124 qs15 q95 q1125 (by decide +kernel) (by decide) (by decide) dX1_watch_2 (As := [vI x1]) (rest := []) rfl rfl (Nat.le_of_ble_eq_true rfl) hg (m_X1_folderAt E hc) (g_out C Q)
  refine g_cV_v (n := 1) C (gk_X1).1 q1122 q1124 qs15 q95 q1125 (by decide +kernel) (by decide) (by decide) dX1_watch_2 (As := [vI x1]) (rest := []) rfl rfl (Nat.le_of_ble_eq_true rfl) hg (m_X1_folderAt E hc) ?_
  refine g_astore_n (L' := [(2, vR v2), (0, vR x0), (1, vI x1)]) C dX1_watch_5 rfl (by decide) rfl ?_
  refine g_aload_n C dX1_watch_6 rfl 1 rfl ?_
  obtain ⟨v3, hv3, hd⟩ := Option.bind_eq_some_iff.mp hd
  refine g_fld C gk_X1 (k := 1) (by decide) q386 (Or.inl rfl) dX1_watch_7 (gR_v hv3) ?_
  obtain ⟨hg, hd⟩ := gd_some hd
  obtain ⟨v5, S4, hc, hd⟩ := bn_some hd
  refine g_cF_v (n := 0) C (gk_J4).1 q812 q843 q841 q99 q845 (List.mem_of_getElem? (i := 18) rfl) (by decide +kernel) (by decide) (by decide) dX1_watch_10 (As := []) (rest := []) rfl rfl (Nat.le_of_ble_eq_true rfl) hg (mh_J3_iterator E hc) ?_
  refine g_astore_n (L' := [(3, vR v5), (2, vR v2), (0, vR x0), (1, vI x1)]) C dX1_watch_15 rfl (by decide) rfl ?_
  refine g_sub [2, 1, 0] rfl ?_
  exact w_X1_watch_b16 C E Q FU _ _ _ _ hd
theorem m_X1_watch {Γ : GG} {HI : St → Heap → Prop} {l : Launch} (E : EH Γ HI l) {S : St} {a0 : Option Nat} {a1 : Int32} {r : (Int32 ⊕ String)} {S1 : St} (h : n_X1_watch S a0 a1 = some (r, S1)) : MS Γ HI l yX1_watch cX1_watch 7 (some (Jvm.ClassFile.FieldType.int)) 10 S [vR a0, vI a1] (resI r) S1 := by
  refine MS_of E.ntr E.hx (by decide +kernel) rfl (Nat.le_of_ble_eq_true rfl) fun K e1 e2 e3 e4 hnm C Q => ?_
  subst e1; subst e2; subst e3
  exact w_X1_watch_b0m C E Q S a0 a1 h

def n_X1_rootAt_b10 : Nat → St → Int32 → Option Nat → Option ((Option Nat ⊕ String) × St)
  | 0 => fun _ _ _ => none
  | n + 1 => fun S x1 x2 =>
    gd (grc S x2 13) <|
    bn (h_J29_hasNext S x2) fun v2 S1 =>
    if v2 = 0 then
      some (Sum.inr "java/lang/IndexOutOfBoundsException", (ssk S1 6))
    else
      gd (grc S1 x2 13) <|
      bn (h_J29_next S1 x2) fun v4 S3 =>
      gd (gcst S3 v4 4) <|
      (gR S3 v4 4 0).bind fun v5 =>
      (gI S3 v5 1 0).bind fun v6 =>
      if v6 = x1 then
        some (Sum.inl v4, S3)
      else
        (n_X1_rootAt_b10 n) S3 x1 x2
def n_X1_rootAt (S : St) (x0 : Option Nat) (x1 : Int32) : Option ((Option Nat ⊕ String) × St) :=
  (gR S x0 0 1).bind fun v1 =>
  gd (grc S v1 9) <|
  bn (h_J3_iterator S v1) fun v3 S2 =>
  n_X1_rootAt_b10 FU S2 x1 v3
theorem w_X1_rootAt_b10 {K : KT} {r : (Option Nat ⊕ String)} {S1 : St} (C : GC K RX1 cX1_rootAt 4 8 []) (E : EH (kΓ K) (kHI K) (kl K)) (Q : GQ K (some (Jvm.ClassFile.FieldType.object "SearchKeeper$Root")) (resR r) S1) : ∀ (n : Nat) (S : St) (x1 : Int32) (x2 : Option Nat), n_X1_rootAt_b10 n S x1 x2 = some (r, S1) → G K 4 S 10 [(1, vI x1), (2, vR x2)] [] := by
  intro n
  induction n with
  | zero => intro S x1 x2 hd; cases hd
  | succ n ih =>
    intro S x1 x2 hd
    unfold n_X1_rootAt_b10 at hd
    refine g_aload_n C dX1_rootAt_10 rfl 1 rfl ?_
    obtain ⟨hg, hd⟩ := gd_some hd
    obtain ⟨v2, S1, hc, hd⟩ := bn_some hd
    refine g_cF_v (n := 0) C (gk_J29).1 q925 q951 q949 q129 q953 (List.mem_of_getElem? (i := 12) rfl) (by decide +kernel) (by decide) (by decide) dX1_rootAt_11 (As := []) (rest := []) rfl rfl (Nat.le_of_ble_eq_true rfl) hg (mh_J29_hasNext E hc) ?_
    refine g_if_eq (tgt := 45) C dX1_rootAt_16 (by decide) hd (fun hd => ?_) (fun hd => ?_)
    · cases hd
      exact g_throw C ["java/lang/RuntimeException", "java/lang/Exception"] (by decide) (by decide) q1136 q112 thw_X1_12.1 thw_X1_12.2 (by decide) (by decide) (Nat.le_of_ble_eq_true rfl) Q rfl dX1_rootAt_45 dX1_rootAt_48 dX1_rootAt_49 dX1_rootAt_52
    · refine g_aload_n C dX1_rootAt_19 rfl 1 rfl ?_
      obtain ⟨hg, hd⟩ := gd_some hd
      obtain ⟨v4, S3, hc, hd⟩ := bn_some hd
      refine g_cF_v (n := 0) C (gk_J29).1 q955 q1047 q1045 q129 q1049 (List.mem_of_getElem? (i := 13) rfl) (by decide +kernel) (by decide) (by decide) dX1_rootAt_20 (As := []) (rest := []) rfl rfl (Nat.le_of_ble_eq_true rfl) hg (mh_J29_next E hc) ?_
      refine g_cast C (gk_X6).1 q1055 dX1_rootAt_25 hd (fun hd => ?_)
      refine g_astore_n (L' := [(3, vR v4), (1, vI x1), (2, vR x2)]) C dX1_rootAt_28 rfl (by decide) rfl ?_
      refine g_aload_n C dX1_rootAt_29 rfl 0 rfl ?_
      obtain ⟨v5, hv5, hd⟩ := Option.bind_eq_some_iff.mp hd
      refine g_fldN C gk_X6 (k := 0) (by decide) q1437 rfl dX1_rootAt_30 (gR_v hv5) ?_
      obtain ⟨v6, hv6, hd⟩ := Option.bind_eq_some_iff.mp hd
      refine g_fldN C gk_X2 (k := 0) (by decide) q240 rfl dX1_rootAt_33 (gI_v hv6) ?_
      refine g_iload_n C dX1_rootAt_36 rfl 1 rfl ?_
      refine g_icmp_ne (tgt := 42) C dX1_rootAt_37 (by decide) hd (fun hd => ?_) (fun hd => ?_)
      · refine g_goto (tgt := 10) C dX1_rootAt_42 (by decide) ?_
        refine g_sub [1, 2] rfl ?_
        exact ih _ _ _ hd
      · refine g_aload_n C dX1_rootAt_40 rfl 0 rfl ?_
        exact g_aretT C Q (Or.inl ⟨_, rfl⟩) hd dX1_rootAt_41
theorem w_X1_rootAt_b0m {K : KT} {r : (Option Nat ⊕ String)} {S1 : St} (C : GC K RX1 cX1_rootAt 4 8 []) (E : EH (kΓ K) (kHI K) (kl K)) (Q : GQ K (some (Jvm.ClassFile.FieldType.object "SearchKeeper$Root")) (resR r) S1) : ∀ (S : St) (x0 : Option Nat) (x1 : Int32), n_X1_rootAt S x0 x1 = some (r, S1) → G K 4 S 0 [(0, vR x0), (1, vI x1)] [] := by
  intro S x0 x1 hd
  unfold n_X1_rootAt at hd
  refine g_aload_n C dX1_rootAt_0 rfl 0 rfl ?_
  obtain ⟨v1, hv1, hd⟩ := Option.bind_eq_some_iff.mp hd
  refine g_fld C gk_X1 (k := 1) (by decide) q386 (Or.inl rfl) dX1_rootAt_1 (gR_v hv1) ?_
  obtain ⟨hg, hd⟩ := gd_some hd
  obtain ⟨v3, S2, hc, hd⟩ := bn_some hd
  refine g_cF_v (n := 0) C (gk_J4).1 q812 q843 q841 q99 q845 (List.mem_of_getElem? (i := 18) rfl) (by decide +kernel) (by decide) (by decide) dX1_rootAt_4 (As := []) (rest := []) rfl rfl (Nat.le_of_ble_eq_true rfl) hg (mh_J3_iterator E hc) ?_
  refine g_astore_n (L' := [(2, vR v3), (0, vR x0), (1, vI x1)]) C dX1_rootAt_9 rfl (by decide) rfl ?_
  refine g_sub [2, 0] rfl ?_
  exact w_X1_rootAt_b10 C E Q FU _ _ _ hd
theorem m_X1_rootAt {Γ : GG} {HI : St → Heap → Prop} {l : Launch} (E : EH Γ HI l) {S : St} {a0 : Option Nat} {a1 : Int32} {r : (Option Nat ⊕ String)} {S1 : St} (h : n_X1_rootAt S a0 a1 = some (r, S1)) : MS Γ HI l yX1_rootAt cX1_rootAt 4 (some (Jvm.ClassFile.FieldType.object "SearchKeeper$Root")) 8 S [vR a0, vI a1] (resR r) S1 := by
  refine MS_of E.ntr E.hx (by decide +kernel) rfl (Nat.le_of_ble_eq_true rfl) fun K e1 e2 e3 e4 hnm C Q => ?_
  subst e1; subst e2; subst e3
  exact w_X1_rootAt_b0m C E Q S a0 a1 h

def n_X1_notices (S : St) (x0 : Option Nat) (x1 : Int32) : Option ((Int32 ⊕ String) × St) :=
  gd (grc S x0 0) <|
  tbn (n_X1_rootAt S x0 x1) fun v2 S1 =>
  (gI S1 v2 4 2).bind fun v3 =>
  if v3 = 0 then
    (gR S1 v2 4 1).bind fun v4 =>
    gd (grc S1 v4 9) <|
    bn (h_J4_size S1 v4) fun v6 S5 =>
    rtI Sum.inl (Jvm.ClassFile.FieldType.int) v6 S5
  else
    rtI Sum.inl (Jvm.ClassFile.FieldType.int) (-1 : Int32) S1
theorem w_X1_notices_b0m {K : KT} {r : (Int32 ⊕ String)} {S1 : St} (C : GC K RX1 cX1_notices 3 9 []) (E : EH (kΓ K) (kHI K) (kl K)) (Q : GQ K (some (Jvm.ClassFile.FieldType.int)) (resI r) S1) : ∀ (S : St) (x0 : Option Nat) (x1 : Int32), n_X1_notices S x0 x1 = some (r, S1) → G K 3 S 0 [(0, vR x0), (1, vI x1)] [] := by
  intro S x0 x1 hd
  unfold n_X1_notices at hd
  refine g_aload_n C dX1_notices_0 rfl 0 rfl ?_
  refine g_iload_n C dX1_notices_1 rfl 1 rfl ?_
  obtain ⟨hg, hd⟩ := gd_some hd
  rcases tbn_some hd with ⟨X9, S1, hc, hz⟩ | ⟨v2, S1, hc, hd⟩
  · cases hz; exact g_cV_x (n := 1) C (gk_X1).1 q1518 q1520 qs27 q95 q1521 (by decide +kernel) (by decide) (by decide) dX1_notices_2 (As := [vI x1]) (rest := []) rfl rfl (Nat.le_of_ble_eq_true rfl) hg (m_X1_rootAt E hc) (g_out C Q)
  refine g_cV_v (n := 1) C (gk_X1).1 q1518 q1520 qs27 q95 q1521 (by decide +kernel) (by decide) (by decide) dX1_notices_2 (As := [vI x1]) (rest := []) rfl rfl (Nat.le_of_ble_eq_true rfl) hg (m_X1_rootAt E hc) ?_
  refine g_astore_n (L' := [(2, vR v2), (0, vR x0), (1, vI x1)]) C dX1_notices_5 rfl (by decide) rfl ?_
  refine g_aload_n C dX1_notices_6 rfl 0 rfl ?_
  obtain ⟨v3, hv3, hd⟩ := Option.bind_eq_some_iff.mp hd
  refine g_fldN C gk_X6 (k := 2) (by decide) q1441 rfl dX1_notices_7 (gI_v hv3) ?_
  refine g_if_eq (tgt := 17) C dX1_notices_10 (by decide) hd (fun hd => ?_) (fun hd => ?_)
  · refine g_aload_n C dX1_notices_17 rfl 0 rfl ?_
    obtain ⟨v4, hv4, hd⟩ := Option.bind_eq_some_iff.mp hd
    refine g_fldN C gk_X6 (k := 1) (by decide) q1439 rfl dX1_notices_18 (gR_v hv4) ?_
    obtain ⟨hg, hd⟩ := gd_some hd
    obtain ⟨v6, S5, hc, hd⟩ := bn_some hd
    refine g_cV_v (n := 0) C (gk_J4).1 q802 q437 q2416 q100 q439 (by decide +kernel) (by decide) (by decide) dX1_notices_21 (As := []) (rest := []) rfl rfl (Nat.le_of_ble_eq_true rfl) hg (mh_J4_size E hc) ?_
    exact g_iretT C Q hd dX1_notices_24
  · refine g_iconst (v := (-1)) C dX1_notices_13 (by decide) ?_
    refine g_goto (tgt := 24) C dX1_notices_14 (by decide) ?_
    exact g_iretT C Q hd dX1_notices_24
theorem m_X1_notices {Γ : GG} {HI : St → Heap → Prop} {l : Launch} (E : EH Γ HI l) {S : St} {a0 : Option Nat} {a1 : Int32} {r : (Int32 ⊕ String)} {S1 : St} (h : n_X1_notices S a0 a1 = some (r, S1)) : MS Γ HI l yX1_notices cX1_notices 3 (some (Jvm.ClassFile.FieldType.int)) 9 S [vR a0, vI a1] (resI r) S1 := by
  refine MS_of E.ntr E.hx (by decide +kernel) rfl (Nat.le_of_ble_eq_true rfl) fun K e1 e2 e3 e4 hnm C Q => ?_
  subst e1; subst e2; subst e3
  exact w_X1_notices_b0m C E Q S a0 a1 h

def n_X1_twice_b21 (S : St) (x0 : Option Nat) (x1 : Int32) (x2 : Option Nat) (y0 : Int32) : Option ((Int32 ⊕ String) × St) :=
  tbn (n_X1_possible S y0) fun _ S1 =>
  (gR S1 x2 4 1).bind fun v3 =>
  gd (grc S1 v3 9) <|
  bn (h_J4_getLast S1 v3) fun v5 S4 =>
  gd (gcst S4 v5 2) <|
  (gR S4 v5 2 0).bind fun v6 =>
  (gR S4 x2 4 1).bind fun v7 =>
  gd (grc S4 v7 9) <|
  bn (h_J4_getLast S4 v7) fun v9 S8 =>
  gd (gcst S8 v9 2) <|
  (gR S8 v9 2 1).bind fun v10 =>
  gd (grc S8 x2 4) <|
  bn (n_X6_tell S8 x2 v6 v10) fun _ S11 =>
  gd (grc S11 x0 0) <|
  tbn (n_X1_notices S11 x0 x1) fun v14 S13 =>
  rtI Sum.inl (Jvm.ClassFile.FieldType.int) v14 S13
def n_X1_twice (S : St) (x0 : Option Nat) (x1 : Int32) : Option ((Int32 ⊕ String) × St) :=
  gd (grc S x0 0) <|
  tbn (n_X1_rootAt S x0 x1) fun v2 S1 =>
  (gR S1 v2 4 1).bind fun v3 =>
  gd (grc S1 v3 9) <|
  bn (h_J0_isEmpty S1 v3) fun v5 S4 =>
  if v5 = 0 then
    n_X1_twice_b21 S4 x0 x1 v2 (1 : Int32)
  else
    n_X1_twice_b21 S4 x0 x1 v2 (0 : Int32)
theorem w_X1_twice_b21 {K : KT} {r : (Int32 ⊕ String)} {S1 : St} (C : GC K RX1 cX1_twice 3 10 []) (E : EH (kΓ K) (kHI K) (kl K)) (Q : GQ K (some (Jvm.ClassFile.FieldType.int)) (resI r) S1) : ∀ (S : St) (x0 : Option Nat) (x1 : Int32) (x2 : Option Nat) (y0 : Int32), n_X1_twice_b21 S x0 x1 x2 y0 = some (r, S1) → G K 3 S 21 [(0, vR x0), (1, vI x1), (2, vR x2)] [vI y0] := by
  intro S x0 x1 x2 y0 hd
  unfold n_X1_twice_b21 at hd
  rcases tbn_some hd with ⟨X9, S1, hc, hz⟩ | ⟨_, S1, hc, hd⟩
  · cases hz; exact g_cS_x (n := 1) C q1162 q1163 q95 q1164 (by decide +kernel) (by decide) (by decide) dX1_twice_21 (As := [vI y0]) (rest := []) rfl rfl (Nat.le_of_ble_eq_true rfl) (m_X1_possible E hc) (g_out C Q)
  refine g_cS_n (n := 1) C q1162 q1163 q95 q1164 (by decide +kernel) (by decide) (by decide) dX1_twice_21 (As := [vI y0]) (rest := []) rfl rfl (Nat.le_of_ble_eq_true rfl) (m_X1_possible E hc) ?_
  refine g_aload_n C dX1_twice_24 rfl 2 rfl ?_
  refine g_aload_n C dX1_twice_25 rfl 2 rfl ?_
  obtain ⟨v3, hv3, hd⟩ := Option.bind_eq_some_iff.mp hd
  refine g_fldN C gk_X6 (k := 1) (by decide) q1439 rfl dX1_twice_26 (gR_v hv3) ?_
  obtain ⟨hg, hd⟩ := gd_some hd
  obtain ⟨v5, S4, hc, hd⟩ := bn_some hd
  refine g_cV_v (n := 0) C (gk_J4).1 q1529 q1530 q1531 q100 q1532 (by decide +kernel) (by decide) (by decide) dX1_twice_29 (As := []) (rest := [vR x2]) rfl rfl (Nat.le_of_ble_eq_true rfl) hg (mh_J4_getLast E hc) ?_
  refine g_cast C (gk_X4).1 q1533 dX1_twice_32 hd (fun hd => ?_)
  obtain ⟨v6, hv6, hd⟩ := Option.bind_eq_some_iff.mp hd
  refine g_fldN C gk_X4 (k := 0) (by decide) q1202 rfl dX1_twice_35 (gR_v hv6) ?_
  refine g_aload_n C dX1_twice_38 rfl 2 rfl ?_
  obtain ⟨v7, hv7, hd⟩ := Option.bind_eq_some_iff.mp hd
  refine g_fldN C gk_X6 (k := 1) (by decide) q1439 rfl dX1_twice_39 (gR_v hv7) ?_
  obtain ⟨hg, hd⟩ := gd_some hd
  obtain ⟨v9, S8, hc, hd⟩ := bn_some hd
  refine g_cV_v (n := 0) C (gk_J4).1 q1529 q1530 q1531 q100 q1532 (by decide +kernel) (by decide) (by decide) dX1_twice_42 (As := []) (rest := [vR v6, vR x2]) rfl rfl (Nat.le_of_ble_eq_true rfl) hg (mh_J4_getLast E hc) ?_
  refine g_cast C (gk_X4).1 q1533 dX1_twice_45 hd (fun hd => ?_)
  obtain ⟨v10, hv10, hd⟩ := Option.bind_eq_some_iff.mp hd
  refine g_fldN C gk_X4 (k := 1) (by decide) q1204 rfl dX1_twice_48 (gR_v hv10) ?_
  obtain ⟨hg, hd⟩ := gd_some hd
  obtain ⟨_, S11, hc, hd⟩ := bn_some hd
  refine g_cV_n (n := 2) C (gk_X6).1 q1186 q1187 q1188 q137 q1189 (by decide +kernel) (by decide) (by decide) dX1_twice_51 (As := [vR v6, vR v10]) (rest := []) rfl rfl (Nat.le_of_ble_eq_true rfl) hg (m_X6_tell E hc) ?_
  refine g_aload_n C dX1_twice_54 rfl 0 rfl ?_
  refine g_iload_n C dX1_twice_55 rfl 1 rfl ?_
  obtain ⟨hg, hd⟩ := gd_some hd
  rcases tbn_some hd with ⟨X9, S13, hc, hz⟩ | ⟨v14, S13, hc, hd⟩
  · cases hz; exact g_cV_x (n := 1) C (gk_X1).1 q1534 q1515 q1516 q95 q1517 (by decide +kernel) (by decide) (by decide) dX1_twice_56 (As := [vI x1]) (rest := []) rfl rfl (Nat.le_of_ble_eq_true rfl) hg (m_X1_notices E hc) (g_out C Q)
  refine g_cV_v (n := 1) C (gk_X1).1 q1534 q1515 q1516 q95 q1517 (by decide +kernel) (by decide) (by decide) dX1_twice_56 (As := [vI x1]) (rest := []) rfl rfl (Nat.le_of_ble_eq_true rfl) hg (m_X1_notices E hc) ?_
  exact g_iretT C Q hd dX1_twice_59
theorem w_X1_twice_b0m {K : KT} {r : (Int32 ⊕ String)} {S1 : St} (C : GC K RX1 cX1_twice 3 10 []) (E : EH (kΓ K) (kHI K) (kl K)) (Q : GQ K (some (Jvm.ClassFile.FieldType.int)) (resI r) S1) : ∀ (S : St) (x0 : Option Nat) (x1 : Int32), n_X1_twice S x0 x1 = some (r, S1) → G K 3 S 0 [(0, vR x0), (1, vI x1)] [] := by
  intro S x0 x1 hd
  unfold n_X1_twice at hd
  refine g_aload_n C dX1_twice_0 rfl 0 rfl ?_
  refine g_iload_n C dX1_twice_1 rfl 1 rfl ?_
  obtain ⟨hg, hd⟩ := gd_some hd
  rcases tbn_some hd with ⟨X9, S1, hc, hz⟩ | ⟨v2, S1, hc, hd⟩
  · cases hz; exact g_cV_x (n := 1) C (gk_X1).1 q1518 q1520 qs27 q95 q1521 (by decide +kernel) (by decide) (by decide) dX1_twice_2 (As := [vI x1]) (rest := []) rfl rfl (Nat.le_of_ble_eq_true rfl) hg (m_X1_rootAt E hc) (g_out C Q)
  refine g_cV_v (n := 1) C (gk_X1).1 q1518 q1520 qs27 q95 q1521 (by decide +kernel) (by decide) (by decide) dX1_twice_2 (As := [vI x1]) (rest := []) rfl rfl (Nat.le_of_ble_eq_true rfl) hg (m_X1_rootAt E hc) ?_
  refine g_astore_n (L' := [(2, vR v2), (0, vR x0), (1, vI x1)]) C dX1_twice_5 rfl (by decide) rfl ?_
  refine g_aload_n C dX1_twice_6 rfl 0 rfl ?_
  obtain ⟨v3, hv3, hd⟩ := Option.bind_eq_some_iff.mp hd
  refine g_fldN C gk_X6 (k := 1) (by decide) q1439 rfl dX1_twice_7 (gR_v hv3) ?_
  obtain ⟨hg, hd⟩ := gd_some hd
  obtain ⟨v5, S4, hc, hd⟩ := bn_some hd
  refine g_cU_v (n := 0) C (gk_J4).1 q1056 q1057 q1060 q1059 q96 q1061 rfl (by decide +kernel) (by decide) (by decide) dX1_twice_10 (As := []) (rest := []) rfl rfl (Nat.le_of_ble_eq_true rfl) hg (mh_J0_isEmpty E hc) ?_
  refine g_if_ne (tgt := 20) C dX1_twice_13 (by decide) hd (fun hd => ?_) (fun hd => ?_)
  · refine g_iconst (v := 0) C dX1_twice_20 (by decide) ?_
    refine g_sub [1, 2, 0] rfl ?_
    exact w_X1_twice_b21 C E Q _ _ _ _ _ hd
  · refine g_iconst (v := 1) C dX1_twice_16 (by decide) ?_
    refine g_goto (tgt := 21) C dX1_twice_17 (by decide) ?_
    refine g_sub [1, 2, 0] rfl ?_
    exact w_X1_twice_b21 C E Q _ _ _ _ _ hd
theorem m_X1_twice {Γ : GG} {HI : St → Heap → Prop} {l : Launch} (E : EH Γ HI l) {S : St} {a0 : Option Nat} {a1 : Int32} {r : (Int32 ⊕ String)} {S1 : St} (h : n_X1_twice S a0 a1 = some (r, S1)) : MS Γ HI l yX1_twice cX1_twice 3 (some (Jvm.ClassFile.FieldType.int)) 10 S [vR a0, vI a1] (resI r) S1 := by
  refine MS_of E.ntr E.hx (by decide +kernel) rfl (Nat.le_of_ble_eq_true rfl) fun K e1 e2 e3 e4 hnm C Q => ?_
  subst e1; subst e2; subst e3
  exact w_X1_twice_b0m C E Q S a0 a1 h

def n_X1_lose_b49 (S : St) (x3 : Option Nat) : Option ((Int32 ⊕ String) × St) :=
  (gR S x3 4 1).bind fun v1 =>
  gd (grc S v1 9) <|
  bn (h_J4_size S v1) fun v3 S2 =>
  rtI Sum.inl (Jvm.ClassFile.FieldType.int) v3 S2
def n_X1_lose_b19 : Nat → St → Int32 → Option Nat → Int32 → Option ((Int32 ⊕ String) × St)
  | 0 => fun _ _ _ _ => none
  | n + 1 => fun S x2 x3 x4 =>
    if x2 ≤ x4 then
      n_X1_lose_b49 S x3
    else
      (gR S x3 4 1).bind fun v1 =>
      gd (grc S v1 9) <|
      bn (h_J0_isEmpty S v1) fun v3 S2 =>
      if v3 = 0 then
        (gR S2 x3 4 1).bind fun v4 =>
        gd (grc S2 v4 9) <|
        bn (h_J4_removeLast S2 v4) fun v6 S5 =>
        (n_X1_lose_b19 n) S5 x2 x3 (x4 + 1)
      else
        n_X1_lose_b49 S2 x3
def n_X1_lose (S : St) (x0 : Option Nat) (x1 : Int32) (x2 : Int32) : Option ((Int32 ⊕ String) × St) :=
  gd (grc S x0 0) <|
  tbn (n_X1_rootAt S x0 x1) fun v2 S1 =>
  bn (n_X1_isIn S1 x2 (1 : Int32) (8 : Int32)) fun v4 S3 =>
  tbn (n_X1_check S3 v4) fun _ S5 =>
  n_X1_lose_b19 FU S5 x2 v2 (0 : Int32)
theorem w_X1_lose_b49 {K : KT} {r : (Int32 ⊕ String)} {S1 : St} (C : GC K RX1 cX1_lose 5 9 []) (E : EH (kΓ K) (kHI K) (kl K)) (Q : GQ K (some (Jvm.ClassFile.FieldType.int)) (resI r) S1) : ∀ (S : St) (x3 : Option Nat), n_X1_lose_b49 S x3 = some (r, S1) → G K 5 S 49 [(3, vR x3)] [] := by
  intro S x3 hd
  unfold n_X1_lose_b49 at hd
  refine g_aload_n C dX1_lose_49 rfl 0 rfl ?_
  obtain ⟨v1, hv1, hd⟩ := Option.bind_eq_some_iff.mp hd
  refine g_fldN C gk_X6 (k := 1) (by decide) q1439 rfl dX1_lose_50 (gR_v hv1) ?_
  obtain ⟨hg, hd⟩ := gd_some hd
  obtain ⟨v3, S2, hc, hd⟩ := bn_some hd
  refine g_cV_v (n := 0) C (gk_J4).1 q802 q437 q2416 q100 q439 (by decide +kernel) (by decide) (by decide) dX1_lose_53 (As := []) (rest := []) rfl rfl (Nat.le_of_ble_eq_true rfl) hg (mh_J4_size E hc) ?_
  exact g_iretT C Q hd dX1_lose_56
theorem w_X1_lose_b19 {K : KT} {r : (Int32 ⊕ String)} {S1 : St} (C : GC K RX1 cX1_lose 5 9 []) (E : EH (kΓ K) (kHI K) (kl K)) (Q : GQ K (some (Jvm.ClassFile.FieldType.int)) (resI r) S1) : ∀ (n : Nat) (S : St) (x2 : Int32) (x3 : Option Nat) (x4 : Int32), n_X1_lose_b19 n S x2 x3 x4 = some (r, S1) → G K 5 S 19 [(2, vI x2), (3, vR x3), (4, vI x4)] [] := by
  intro n
  induction n with
  | zero => intro S x2 x3 x4 hd; cases hd
  | succ n ih =>
    intro S x2 x3 x4 hd
    unfold n_X1_lose_b19 at hd
    refine g_iload C dX1_lose_19 2 rfl ?_
    refine g_iload_n C dX1_lose_21 rfl 0 rfl ?_
    refine g_icmp_ge (tgt := 49) C dX1_lose_22 (by decide) hd (fun hd => ?_) (fun hd => ?_)
    · refine g_sub [1] rfl ?_
      exact w_X1_lose_b49 C E Q _ _ hd
    · refine g_aload_n C dX1_lose_25 rfl 1 rfl ?_
      obtain ⟨v1, hv1, hd⟩ := Option.bind_eq_some_iff.mp hd
      refine g_fldN C gk_X6 (k := 1) (by decide) q1439 rfl dX1_lose_26 (gR_v hv1) ?_
      obtain ⟨hg, hd⟩ := gd_some hd
      obtain ⟨v3, S2, hc, hd⟩ := bn_some hd
      refine g_cU_v (n := 0) C (gk_J4).1 q1056 q1057 q1060 q1059 q96 q1061 rfl (by decide +kernel) (by decide) (by decide) dX1_lose_29 (As := []) (rest := []) rfl rfl (Nat.le_of_ble_eq_true rfl) hg (mh_J0_isEmpty E hc) ?_
      refine g_if_ne (tgt := 49) C dX1_lose_32 (by decide) hd (fun hd => ?_) (fun hd => ?_)
      · refine g_sub [1] rfl ?_
        exact w_X1_lose_b49 C E Q _ _ hd
      · refine g_aload_n C dX1_lose_35 rfl 1 rfl ?_
        obtain ⟨v4, hv4, hd⟩ := Option.bind_eq_some_iff.mp hd
        refine g_fldN C gk_X6 (k := 1) (by decide) q1439 rfl dX1_lose_36 (gR_v hv4) ?_
        obtain ⟨hg, hd⟩ := gd_some hd
        obtain ⟨v6, S5, hc, hd⟩ := bn_some hd
        refine g_cV_v (n := 0) C (gk_J4).1 q1542 q1543 q1544 q100 q1545 (by decide +kernel) (by decide) (by decide) dX1_lose_39 (As := []) (rest := []) rfl rfl (Nat.le_of_ble_eq_true rfl) hg (mh_J4_removeLast E hc) ?_
        refine g_pop C dX1_lose_42 rfl ?_
        refine g_iinc (v := x4 + 1) (L' := [(4, vI (x4 + 1)), (2, vI x2), (3, vR x3)]) C dX1_lose_43 2 rfl rfl (by decide) rfl ?_
        refine g_goto (tgt := 19) C dX1_lose_46 (by decide) ?_
        refine g_sub [1, 2, 0] rfl ?_
        exact ih _ _ _ _ hd
theorem w_X1_lose_b0m {K : KT} {r : (Int32 ⊕ String)} {S1 : St} (C : GC K RX1 cX1_lose 5 9 []) (E : EH (kΓ K) (kHI K) (kl K)) (Q : GQ K (some (Jvm.ClassFile.FieldType.int)) (resI r) S1) : ∀ (S : St) (x0 : Option Nat) (x1 : Int32) (x2 : Int32), n_X1_lose S x0 x1 x2 = some (r, S1) → G K 5 S 0 [(0, vR x0), (1, vI x1), (2, vI x2)] [] := by
  intro S x0 x1 x2 hd
  unfold n_X1_lose at hd
  refine g_aload_n C dX1_lose_0 rfl 0 rfl ?_
  refine g_iload_n C dX1_lose_1 rfl 1 rfl ?_
  obtain ⟨hg, hd⟩ := gd_some hd
  rcases tbn_some hd with ⟨X9, S1, hc, hz⟩ | ⟨v2, S1, hc, hd⟩
  · cases hz; exact g_cV_x (n := 1) C (gk_X1).1 q1518 q1520 qs27 q95 q1521 (by decide +kernel) (by decide) (by decide) dX1_lose_2 (As := [vI x1]) (rest := []) rfl rfl (Nat.le_of_ble_eq_true rfl) hg (m_X1_rootAt E hc) (g_out C Q)
  refine g_cV_v (n := 1) C (gk_X1).1 q1518 q1520 qs27 q95 q1521 (by decide +kernel) (by decide) (by decide) dX1_lose_2 (As := [vI x1]) (rest := []) rfl rfl (Nat.le_of_ble_eq_true rfl) hg (m_X1_rootAt E hc) ?_
  refine g_astore_n (L' := [(3, vR v2), (0, vR x0), (1, vI x1), (2, vI x2)]) C dX1_lose_5 rfl (by decide) rfl ?_
  refine g_iload_n C dX1_lose_6 rfl 3 rfl ?_
  refine g_iconst (v := 1) C dX1_lose_7 (by decide) ?_
  refine g_bipush (v := 8) C dX1_lose_8 (by decide) ?_
  obtain ⟨v4, S3, hc, hd⟩ := bn_some hd
  refine g_cS_v (n := 3) C q1130 q1131 q95 q1132 (by decide +kernel) (by decide) (by decide) dX1_lose_10 (As := [vI x2, vI (1 : Int32), vI (8 : Int32)]) (rest := []) rfl rfl (Nat.le_of_ble_eq_true rfl) (m_X1_isIn E hc) ?_
  rcases tbn_some hd with ⟨X9, S5, hc, hz⟩ | ⟨_, S5, hc, hd⟩
  · cases hz; exact g_cS_x (n := 1) C q1150 q1151 q95 q1152 (by decide +kernel) (by decide) (by decide) dX1_lose_13 (As := [vI v4]) (rest := []) rfl rfl (Nat.le_of_ble_eq_true rfl) (m_X1_check E hc) (g_out C Q)
  refine g_cS_n (n := 1) C q1150 q1151 q95 q1152 (by decide +kernel) (by decide) (by decide) dX1_lose_13 (As := [vI v4]) (rest := []) rfl rfl (Nat.le_of_ble_eq_true rfl) (m_X1_check E hc) ?_
  refine g_iconst (v := 0) C dX1_lose_16 (by decide) ?_
  refine g_istore (L' := [(4, vI (0 : Int32)), (3, vR v2), (0, vR x0), (1, vI x1), (2, vI x2)]) C dX1_lose_17 (by decide) rfl ?_
  refine g_sub [4, 1, 0] rfl ?_
  exact w_X1_lose_b19 C E Q FU _ _ _ _ hd
theorem m_X1_lose {Γ : GG} {HI : St → Heap → Prop} {l : Launch} (E : EH Γ HI l) {S : St} {a0 : Option Nat} {a1 : Int32} {a2 : Int32} {r : (Int32 ⊕ String)} {S1 : St} (h : n_X1_lose S a0 a1 a2 = some (r, S1)) : MS Γ HI l yX1_lose cX1_lose 5 (some (Jvm.ClassFile.FieldType.int)) 9 S [vR a0, vI a1, vI a2] (resI r) S1 := by
  refine MS_of E.ntr E.hx (by decide +kernel) rfl (Nat.le_of_ble_eq_true rfl) fun K e1 e2 e3 e4 hnm C Q => ?_
  subst e1; subst e2; subst e3
  exact w_X1_lose_b0m C E Q S a0 a1 a2 h

def n_X1_pass_b28 (S : St) (x0 : Option Nat) (x1 : Int32) (y0 : Int32) : Option ((Int32 ⊕ String) × St) :=
  tbn (n_X1_possible S y0) fun _ S1 =>
  (gI S1 x0 0 6).bind fun v3 =>
  (pI .int S1 x0 0 6 (v3 + x1)).bind fun S4 =>
  (gI S4 x0 0 6).bind fun v5 =>
  rtI Sum.inl (Jvm.ClassFile.FieldType.int) v5 S4
def n_X1_pass (S : St) (x0 : Option Nat) (x1 : Int32) : Option ((Int32 ⊕ String) × St) :=
  bn (n_X1_isIn S x1 (1 : Int32) (1000 : Int32)) fun v2 S1 =>
  tbn (n_X1_check S1 v2) fun _ S3 =>
  (gI S3 x0 0 6).bind fun v5 =>
  if (100000 : Int32) < (v5 + x1) then
    n_X1_pass_b28 S3 x0 x1 (0 : Int32)
  else
    n_X1_pass_b28 S3 x0 x1 (1 : Int32)
theorem w_X1_pass_b28 {K : KT} {r : (Int32 ⊕ String)} {S1 : St} (C : GC K RX1 cX1_pass 2 9 []) (E : EH (kΓ K) (kHI K) (kl K)) (Q : GQ K (some (Jvm.ClassFile.FieldType.int)) (resI r) S1) : ∀ (S : St) (x0 : Option Nat) (x1 : Int32) (y0 : Int32), n_X1_pass_b28 S x0 x1 y0 = some (r, S1) → G K 2 S 28 [(0, vR x0), (1, vI x1)] [vI y0] := by
  intro S x0 x1 y0 hd
  unfold n_X1_pass_b28 at hd
  rcases tbn_some hd with ⟨X9, S1, hc, hz⟩ | ⟨_, S1, hc, hd⟩
  · cases hz; exact g_cS_x (n := 1) C q1162 q1163 q95 q1164 (by decide +kernel) (by decide) (by decide) dX1_pass_28 (As := [vI y0]) (rest := []) rfl rfl (Nat.le_of_ble_eq_true rfl) (m_X1_possible E hc) (g_out C Q)
  refine g_cS_n (n := 1) C q1162 q1163 q95 q1164 (by decide +kernel) (by decide) (by decide) dX1_pass_28 (As := [vI y0]) (rest := []) rfl rfl (Nat.le_of_ble_eq_true rfl) (m_X1_possible E hc) ?_
  refine g_aload_n C dX1_pass_31 rfl 0 rfl ?_
  refine g_dup C dX1_pass_32 rfl ?_
  obtain ⟨v3, hv3, hd⟩ := Option.bind_eq_some_iff.mp hd
  refine g_fld C gk_X1 (k := 6) (by decide) q391 (Or.inl rfl) dX1_pass_33 (gI_v hv3) ?_
  refine g_iload_n C dX1_pass_36 rfl 1 rfl ?_
  refine g_iadd C dX1_pass_37 ?_
  obtain ⟨S4, hS4, hd⟩ := Option.bind_eq_some_iff.mp hd
  refine g_put C gk_X1 (k := 6) (by decide) q391 (Or.inl rfl) rfl dX1_pass_38 (gfit_ok (pI_v hS4).1).1 (gfit_ok (pI_v hS4).1).2 (pI_v hS4).2 ?_
  refine g_aload_n C dX1_pass_41 rfl 0 rfl ?_
  obtain ⟨v5, hv5, hd⟩ := Option.bind_eq_some_iff.mp hd
  refine g_fld C gk_X1 (k := 6) (by decide) q391 (Or.inl rfl) dX1_pass_42 (gI_v hv5) ?_
  exact g_iretT C Q hd dX1_pass_45
theorem w_X1_pass_b0m {K : KT} {r : (Int32 ⊕ String)} {S1 : St} (C : GC K RX1 cX1_pass 2 9 []) (E : EH (kΓ K) (kHI K) (kl K)) (Q : GQ K (some (Jvm.ClassFile.FieldType.int)) (resI r) S1) : ∀ (S : St) (x0 : Option Nat) (x1 : Int32), n_X1_pass S x0 x1 = some (r, S1) → G K 2 S 0 [(0, vR x0), (1, vI x1)] [] := by
  intro S x0 x1 hd
  unfold n_X1_pass at hd
  refine g_iload_n C dX1_pass_0 rfl 1 rfl ?_
  refine g_iconst (v := 1) C dX1_pass_1 (by decide) ?_
  refine g_sipush (v := 1000) C dX1_pass_2 (by decide) ?_
  obtain ⟨v2, S1, hc, hd⟩ := bn_some hd
  refine g_cS_v (n := 3) C q1130 q1131 q95 q1132 (by decide +kernel) (by decide) (by decide) dX1_pass_5 (As := [vI x1, vI (1 : Int32), vI (1000 : Int32)]) (rest := []) rfl rfl (Nat.le_of_ble_eq_true rfl) (m_X1_isIn E hc) ?_
  rcases tbn_some hd with ⟨X9, S3, hc, hz⟩ | ⟨_, S3, hc, hd⟩
  · cases hz; exact g_cS_x (n := 1) C q1150 q1151 q95 q1152 (by decide +kernel) (by decide) (by decide) dX1_pass_8 (As := [vI v2]) (rest := []) rfl rfl (Nat.le_of_ble_eq_true rfl) (m_X1_check E hc) (g_out C Q)
  refine g_cS_n (n := 1) C q1150 q1151 q95 q1152 (by decide +kernel) (by decide) (by decide) dX1_pass_8 (As := [vI v2]) (rest := []) rfl rfl (Nat.le_of_ble_eq_true rfl) (m_X1_check E hc) ?_
  refine g_aload_n C dX1_pass_11 rfl 0 rfl ?_
  obtain ⟨v5, hv5, hd⟩ := Option.bind_eq_some_iff.mp hd
  refine g_fld C gk_X1 (k := 6) (by decide) q391 (Or.inl rfl) dX1_pass_12 (gI_v hv5) ?_
  refine g_iload_n C dX1_pass_15 rfl 1 rfl ?_
  refine g_iadd C dX1_pass_16 ?_
  refine g_ldcw C q1557 dX1_pass_17 ?_
  refine g_icmp_gt (tgt := 27) C dX1_pass_20 (by decide) hd (fun hd => ?_) (fun hd => ?_)
  · refine g_iconst (v := 0) C dX1_pass_27 (by decide) ?_
    refine g_sub [0, 1] rfl ?_
    exact w_X1_pass_b28 C E Q _ _ _ _ hd
  · refine g_iconst (v := 1) C dX1_pass_23 (by decide) ?_
    refine g_goto (tgt := 28) C dX1_pass_24 (by decide) ?_
    refine g_sub [0, 1] rfl ?_
    exact w_X1_pass_b28 C E Q _ _ _ _ hd
theorem m_X1_pass {Γ : GG} {HI : St → Heap → Prop} {l : Launch} (E : EH Γ HI l) {S : St} {a0 : Option Nat} {a1 : Int32} {r : (Int32 ⊕ String)} {S1 : St} (h : n_X1_pass S a0 a1 = some (r, S1)) : MS Γ HI l yX1_pass cX1_pass 2 (some (Jvm.ClassFile.FieldType.int)) 9 S [vR a0, vI a1] (resI r) S1 := by
  refine MS_of E.ntr E.hx (by decide +kernel) rfl (Nat.le_of_ble_eq_true rfl) fun K e1 e2 e3 e4 hnm C Q => ?_
  subst e1; subst e2; subst e3
  exact w_X1_pass_b0m C E Q S a0 a1 h

def n_X1_battery (S : St) (x0 : Option Nat) (x1 : Int32) : Option (Int32 × St) :=
  (gI S x0 0 7).bind fun v1 =>
  (pI .boolean S x0 0 7 x1).bind fun S2 =>
  rtI id (Jvm.ClassFile.FieldType.boolean) v1 S2
theorem w_X1_battery_b0m {K : KT} {r : Int32} {S1 : St} (C : GC K RX1 cX1_battery 3 2 []) (E : EH (kΓ K) (kHI K) (kl K)) (Q : GQ K (some (Jvm.ClassFile.FieldType.boolean)) (.inl (some (vI r))) S1) : ∀ (S : St) (x0 : Option Nat) (x1 : Int32), n_X1_battery S x0 x1 = some (r, S1) → G K 3 S 0 [(0, vR x0), (1, vI x1)] [] := by
  intro S x0 x1 hd
  unfold n_X1_battery at hd
  refine g_aload_n C dX1_battery_0 rfl 0 rfl ?_
  obtain ⟨v1, hv1, hd⟩ := Option.bind_eq_some_iff.mp hd
  refine g_fld C gk_X1 (k := 7) (by decide) q392 (Or.inl rfl) dX1_battery_1 (gI_v hv1) ?_
  refine g_istore_n (L' := [(2, vI v1), (0, vR x0), (1, vI x1)]) C dX1_battery_4 rfl (by decide) rfl ?_
  refine g_aload_n C dX1_battery_5 rfl 1 rfl ?_
  refine g_iload_n C dX1_battery_6 rfl 2 rfl ?_
  obtain ⟨S2, hS2, hd⟩ := Option.bind_eq_some_iff.mp hd
  refine g_put C gk_X1 (k := 7) (by decide) q392 (Or.inl rfl) rfl dX1_battery_7 (gfit_ok (pI_v hS2).1).1 (gfit_ok (pI_v hS2).1).2 (pI_v hS2).2 ?_
  refine g_iload_n C dX1_battery_10 rfl 0 rfl ?_
  exact g_iret C Q hd dX1_battery_11
theorem m_X1_battery {Γ : GG} {HI : St → Heap → Prop} {l : Launch} (E : EH Γ HI l) {S : St} {a0 : Option Nat} {a1 : Int32} {r : Int32} {S1 : St} (h : n_X1_battery S a0 a1 = some (r, S1)) : MS Γ HI l yX1_battery cX1_battery 3 (some (Jvm.ClassFile.FieldType.boolean)) 2 S [vR a0, vI a1] (.inl (some (vI r))) S1 := by
  refine MS_of E.ntr E.hx (by decide +kernel) rfl (Nat.le_of_ble_eq_true rfl) fun K e1 e2 e3 e4 hnm C Q => ?_
  subst e1; subst e2; subst e3
  exact w_X1_battery_b0m C E Q S a0 a1 h

def n_X1_limits_b24 (S : St) (x0 : Option Nat) (x1 : Int32) (x2 : Int32) (y0 : Int32) : Option ((Int32 ⊕ String) × St) :=
  tbn (n_X1_check S y0) fun _ S1 =>
  (gI S1 x0 0 11).bind fun v3 =>
  (pI .int S1 x0 0 10 x1).bind fun S4 =>
  (pI .int S4 x0 0 11 x2).bind fun S5 =>
  rtI Sum.inl (Jvm.ClassFile.FieldType.int) v3 S5
def n_X1_limits_b23 (S : St) (x0 : Option Nat) (x1 : Int32) (x2 : Int32) : Option ((Int32 ⊕ String) × St) :=
  n_X1_limits_b24 S x0 x1 x2 (0 : Int32)
def n_X1_limits (S : St) (x0 : Option Nat) (x1 : Int32) (x2 : Int32) : Option ((Int32 ⊕ String) × St) :=
  bn (n_X1_isIn S x1 (0 : Int32) (3 : Int32)) fun v2 S1 =>
  if v2 = 0 then
    n_X1_limits_b23 S1 x0 x1 x2
  else
    bn (n_X1_isIn S1 x2 (1 : Int32) (20 : Int32)) fun v4 S3 =>
    if v4 = 0 then
      n_X1_limits_b23 S3 x0 x1 x2
    else
      n_X1_limits_b24 S3 x0 x1 x2 (1 : Int32)
theorem w_X1_limits_b24 {K : KT} {r : (Int32 ⊕ String)} {S1 : St} (C : GC K RX1 cX1_limits 4 9 []) (E : EH (kΓ K) (kHI K) (kl K)) (Q : GQ K (some (Jvm.ClassFile.FieldType.int)) (resI r) S1) : ∀ (S : St) (x0 : Option Nat) (x1 : Int32) (x2 : Int32) (y0 : Int32), n_X1_limits_b24 S x0 x1 x2 y0 = some (r, S1) → G K 4 S 24 [(0, vR x0), (1, vI x1), (2, vI x2)] [vI y0] := by
  intro S x0 x1 x2 y0 hd
  unfold n_X1_limits_b24 at hd
  rcases tbn_some hd with ⟨X9, S1, hc, hz⟩ | ⟨_, S1, hc, hd⟩
  · cases hz; exact g_cS_x (n := 1) C q1150 q1151 q95 q1152 (by decide +kernel) (by decide) (by decide) dX1_limits_24 (As := [vI y0]) (rest := []) rfl rfl (Nat.le_of_ble_eq_true rfl) (m_X1_check E hc) (g_out C Q)
  refine g_cS_n (n := 1) C q1150 q1151 q95 q1152 (by decide +kernel) (by decide) (by decide) dX1_limits_24 (As := [vI y0]) (rest := []) rfl rfl (Nat.le_of_ble_eq_true rfl) (m_X1_check E hc) ?_
  refine g_aload_n C dX1_limits_27 rfl 0 rfl ?_
  obtain ⟨v3, hv3, hd⟩ := Option.bind_eq_some_iff.mp hd
  refine g_fld C gk_X1 (k := 11) (by decide) q396 (Or.inl rfl) dX1_limits_28 (gI_v hv3) ?_
  refine g_istore_n (L' := [(3, vI v3), (0, vR x0), (1, vI x1), (2, vI x2)]) C dX1_limits_31 rfl (by decide) rfl ?_
  refine g_aload_n C dX1_limits_32 rfl 1 rfl ?_
  refine g_iload_n C dX1_limits_33 rfl 2 rfl ?_
  obtain ⟨S4, hS4, hd⟩ := Option.bind_eq_some_iff.mp hd
  refine g_put C gk_X1 (k := 10) (by decide) q395 (Or.inl rfl) rfl dX1_limits_34 (gfit_ok (pI_v hS4).1).1 (gfit_ok (pI_v hS4).1).2 (pI_v hS4).2 ?_
  refine g_aload_n C dX1_limits_37 rfl 1 rfl ?_
  refine g_iload_n C dX1_limits_38 rfl 3 rfl ?_
  obtain ⟨S5, hS5, hd⟩ := Option.bind_eq_some_iff.mp hd
  refine g_put C gk_X1 (k := 11) (by decide) q396 (Or.inl rfl) rfl dX1_limits_39 (gfit_ok (pI_v hS5).1).1 (gfit_ok (pI_v hS5).1).2 (pI_v hS5).2 ?_
  refine g_iload_n C dX1_limits_42 rfl 0 rfl ?_
  exact g_iretT C Q hd dX1_limits_43
theorem w_X1_limits_b23 {K : KT} {r : (Int32 ⊕ String)} {S1 : St} (C : GC K RX1 cX1_limits 4 9 []) (E : EH (kΓ K) (kHI K) (kl K)) (Q : GQ K (some (Jvm.ClassFile.FieldType.int)) (resI r) S1) : ∀ (S : St) (x0 : Option Nat) (x1 : Int32) (x2 : Int32), n_X1_limits_b23 S x0 x1 x2 = some (r, S1) → G K 4 S 23 [(0, vR x0), (1, vI x1), (2, vI x2)] [] := by
  intro S x0 x1 x2 hd
  unfold n_X1_limits_b23 at hd
  refine g_iconst (v := 0) C dX1_limits_23 (by decide) ?_
  refine g_sub [0, 1, 2] rfl ?_
  exact w_X1_limits_b24 C E Q _ _ _ _ _ hd
theorem w_X1_limits_b0m {K : KT} {r : (Int32 ⊕ String)} {S1 : St} (C : GC K RX1 cX1_limits 4 9 []) (E : EH (kΓ K) (kHI K) (kl K)) (Q : GQ K (some (Jvm.ClassFile.FieldType.int)) (resI r) S1) : ∀ (S : St) (x0 : Option Nat) (x1 : Int32) (x2 : Int32), n_X1_limits S x0 x1 x2 = some (r, S1) → G K 4 S 0 [(0, vR x0), (1, vI x1), (2, vI x2)] [] := by
  intro S x0 x1 x2 hd
  unfold n_X1_limits at hd
  refine g_iload_n C dX1_limits_0 rfl 1 rfl ?_
  refine g_iconst (v := 0) C dX1_limits_1 (by decide) ?_
  refine g_iconst (v := 3) C dX1_limits_2 (by decide) ?_
  obtain ⟨v2, S1, hc, hd⟩ := bn_some hd
  refine g_cS_v (n := 3) C q1130 q1131 q95 q1132 (by decide +kernel) (by decide) (by decide) dX1_limits_3 (As := [vI x1, vI (0 : Int32), vI (3 : Int32)]) (rest := []) rfl rfl (Nat.le_of_ble_eq_true rfl) (m_X1_isIn E hc) ?_
  refine g_if_eq (tgt := 23) C dX1_limits_6 (by decide) hd (fun hd => ?_) (fun hd => ?_)
  · refine g_sub [0, 1, 2] rfl ?_
    exact w_X1_limits_b23 C E Q _ _ _ _ hd
  · refine g_iload_n C dX1_limits_9 rfl 2 rfl ?_
    refine g_iconst (v := 1) C dX1_limits_10 (by decide) ?_
    refine g_bipush (v := 20) C dX1_limits_11 (by decide) ?_
    obtain ⟨v4, S3, hc, hd⟩ := bn_some hd
    refine g_cS_v (n := 3) C q1130 q1131 q95 q1132 (by decide +kernel) (by decide) (by decide) dX1_limits_13 (As := [vI x2, vI (1 : Int32), vI (20 : Int32)]) (rest := []) rfl rfl (Nat.le_of_ble_eq_true rfl) (m_X1_isIn E hc) ?_
    refine g_if_eq (tgt := 23) C dX1_limits_16 (by decide) hd (fun hd => ?_) (fun hd => ?_)
    · refine g_sub [0, 1, 2] rfl ?_
      exact w_X1_limits_b23 C E Q _ _ _ _ hd
    · refine g_iconst (v := 1) C dX1_limits_19 (by decide) ?_
      refine g_goto (tgt := 24) C dX1_limits_20 (by decide) ?_
      refine g_sub [0, 1, 2] rfl ?_
      exact w_X1_limits_b24 C E Q _ _ _ _ _ hd
theorem m_X1_limits {Γ : GG} {HI : St → Heap → Prop} {l : Launch} (E : EH Γ HI l) {S : St} {a0 : Option Nat} {a1 : Int32} {a2 : Int32} {r : (Int32 ⊕ String)} {S1 : St} (h : n_X1_limits S a0 a1 a2 = some (r, S1)) : MS Γ HI l yX1_limits cX1_limits 4 (some (Jvm.ClassFile.FieldType.int)) 9 S [vR a0, vI a1, vI a2] (resI r) S1 := by
  refine MS_of E.ntr E.hx (by decide +kernel) rfl (Nat.le_of_ble_eq_true rfl) fun K e1 e2 e3 e4 hnm C Q => ?_
  subst e1; subst e2; subst e3
  exact w_X1_limits_b0m C E Q S a0 a1 a2 h

def n_X1_crawl_2_b54 (k20 : St → Int32 → Option Nat → Option ((Int32 ⊕ String) × St)) (S : St) (x3 : Option Nat) (y0 : Int32) (y1 : Int32) : Option ((Int32 ⊕ String) × St) :=
  k20 S (y1 + y0) x3
def n_X1_crawl_2_b20 : Nat → St → Int32 → Option Nat → Option ((Int32 ⊕ String) × St)
  | 0 => fun _ _ _ => none
  | n + 1 => fun S x2 x3 =>
    gd (grc S x3 13) <|
    bn (h_J29_hasNext S x3) fun v2 S1 =>
    if v2 = 0 then
      rtI Sum.inl (Jvm.ClassFile.FieldType.int) x2 S1
    else
      gd (grc S1 x3 13) <|
      bn (h_J29_next S1 x3) fun v4 S3 =>
      gd (gcst S3 v4 4) <|
      (gR S3 v4 4 3).bind fun v5 =>
      if v5 = none then
        n_X1_crawl_2_b54 (n_X1_crawl_2_b20 n) S3 x3 (0 : Int32) x2
      else
        n_X1_crawl_2_b54 (n_X1_crawl_2_b20 n) S3 x3 (1 : Int32) x2
def n_X1_crawl_2 (S : St) (x0 : Option Nat) (x1 : Int32) : Option ((Int32 ⊕ String) × St) :=
  gd (grc S x0 0) <|
  tbn (n_X1_rootAt S x0 x1) fun v2 S1 =>
  gd (grc S1 v2 4) <|
  bn (n_X6_begin S1 v2) fun _ S3 =>
  (gR S3 x0 0 1).bind fun v5 =>
  gd (grc S3 v5 9) <|
  bn (h_J3_iterator S3 v5) fun v7 S6 =>
  n_X1_crawl_2_b20 FU S6 (0 : Int32) v7
theorem w_X1_crawl_2_b54 {K : KT} {r : (Int32 ⊕ String)} {S1 : St} (C : GC K RX1 cX1_crawl_2 5 9 []) (E : EH (kΓ K) (kHI K) (kl K)) (Q : GQ K (some (Jvm.ClassFile.FieldType.int)) (resI r) S1) {k20 : St → Int32 → Option Nat → Option ((Int32 ⊕ String) × St)} (h20 : ∀ (S : St) (x2 : Int32) (x3 : Option Nat), k20 S x2 x3 = some (r, S1) → G K 5 S 20 [(2, vI x2), (3, vR x3)] []) : ∀ (S : St) (x3 : Option Nat) (y0 : Int32) (y1 : Int32), n_X1_crawl_2_b54 k20 S x3 y0 y1 = some (r, S1) → G K 5 S 54 [(3, vR x3)] [vI y0, vI y1] := by
  intro S x3 y0 y1 hd
  unfold n_X1_crawl_2_b54 at hd
  refine g_iadd C dX1_crawl_2_54 ?_
  refine g_istore_n (L' := [(2, vI (y1 + y0)), (3, vR x3)]) C dX1_crawl_2_55 rfl (by decide) rfl ?_
  refine g_goto (tgt := 20) C dX1_crawl_2_56 (by decide) ?_
  refine g_sub [0, 1] rfl ?_
  exact h20 _ _ _ hd
theorem w_X1_crawl_2_b20 {K : KT} {r : (Int32 ⊕ String)} {S1 : St} (C : GC K RX1 cX1_crawl_2 5 9 []) (E : EH (kΓ K) (kHI K) (kl K)) (Q : GQ K (some (Jvm.ClassFile.FieldType.int)) (resI r) S1) : ∀ (n : Nat) (S : St) (x2 : Int32) (x3 : Option Nat), n_X1_crawl_2_b20 n S x2 x3 = some (r, S1) → G K 5 S 20 [(2, vI x2), (3, vR x3)] [] := by
  intro n
  induction n with
  | zero => intro S x2 x3 hd; cases hd
  | succ n ih =>
    intro S x2 x3 hd
    unfold n_X1_crawl_2_b20 at hd
    refine g_aload_n C dX1_crawl_2_20 rfl 1 rfl ?_
    obtain ⟨hg, hd⟩ := gd_some hd
    obtain ⟨v2, S1, hc, hd⟩ := bn_some hd
    refine g_cF_v (n := 0) C (gk_J29).1 q925 q951 q949 q129 q953 (List.mem_of_getElem? (i := 12) rfl) (by decide +kernel) (by decide) (by decide) dX1_crawl_2_21 (As := []) (rest := []) rfl rfl (Nat.le_of_ble_eq_true rfl) hg (mh_J29_hasNext E hc) ?_
    refine g_if_eq (tgt := 59) C dX1_crawl_2_26 (by decide) hd (fun hd => ?_) (fun hd => ?_)
    · refine g_iload_n C dX1_crawl_2_59 rfl 0 rfl ?_
      exact g_iretT C Q hd dX1_crawl_2_60
    · refine g_aload_n C dX1_crawl_2_29 rfl 1 rfl ?_
      obtain ⟨hg, hd⟩ := gd_some hd
      obtain ⟨v4, S3, hc, hd⟩ := bn_some hd
      refine g_cF_v (n := 0) C (gk_J29).1 q955 q1047 q1045 q129 q1049 (List.mem_of_getElem? (i := 13) rfl) (by decide +kernel) (by decide) (by decide) dX1_crawl_2_30 (As := []) (rest := []) rfl rfl (Nat.le_of_ble_eq_true rfl) hg (mh_J29_next E hc) ?_
      refine g_cast C (gk_X6).1 q1055 dX1_crawl_2_35 hd (fun hd => ?_)
      refine g_astore (L' := [(4, vR v4), (2, vI x2), (3, vR x3)]) C dX1_crawl_2_38 (by decide) rfl ?_
      refine g_iload_n C dX1_crawl_2_40 rfl 1 rfl ?_
      refine g_aload C dX1_crawl_2_41 0 rfl ?_
      obtain ⟨v5, hv5, hd⟩ := Option.bind_eq_some_iff.mp hd
      refine g_fldN C gk_X6 (k := 3) (by decide) q1443 rfl dX1_crawl_2_43 (gR_v hv5) ?_
      refine g_ifnonnull (tgt := 53) C dX1_crawl_2_46 (by decide) hd (fun hd => ?_) (fun hd => ?_)
      · refine g_iconst (v := 1) C dX1_crawl_2_53 (by decide) ?_
        refine g_sub [2] rfl ?_
        exact w_X1_crawl_2_b54 C E Q ih _ _ _ _ hd
      · refine g_iconst (v := 0) C dX1_crawl_2_49 (by decide) ?_
        refine g_goto (tgt := 54) C dX1_crawl_2_50 (by decide) ?_
        refine g_sub [2] rfl ?_
        exact w_X1_crawl_2_b54 C E Q ih _ _ _ _ hd
theorem w_X1_crawl_2_b0m {K : KT} {r : (Int32 ⊕ String)} {S1 : St} (C : GC K RX1 cX1_crawl_2 5 9 []) (E : EH (kΓ K) (kHI K) (kl K)) (Q : GQ K (some (Jvm.ClassFile.FieldType.int)) (resI r) S1) : ∀ (S : St) (x0 : Option Nat) (x1 : Int32), n_X1_crawl_2 S x0 x1 = some (r, S1) → G K 5 S 0 [(0, vR x0), (1, vI x1)] [] := by
  intro S x0 x1 hd
  unfold n_X1_crawl_2 at hd
  refine g_aload_n C dX1_crawl_2_0 rfl 0 rfl ?_
  refine g_iload_n C dX1_crawl_2_1 rfl 1 rfl ?_
  obtain ⟨hg, hd⟩ := gd_some hd
  rcases tbn_some hd with ⟨X9, S1, hc, hz⟩ | ⟨v2, S1, hc, hd⟩
  · cases hz; exact g_cV_x (n := 1) C (gk_X1).1 q1518 q1520 qs27 q95 q1521 (by decide +kernel) (by decide) (by decide) dX1_crawl_2_2 (As := [vI x1]) (rest := []) rfl rfl (Nat.le_of_ble_eq_true rfl) hg (m_X1_rootAt E hc) (g_out C Q)
  refine g_cV_v (n := 1) C (gk_X1).1 q1518 q1520 qs27 q95 q1521 (by decide +kernel) (by decide) (by decide) dX1_crawl_2_2 (As := [vI x1]) (rest := []) rfl rfl (Nat.le_of_ble_eq_true rfl) hg (m_X1_rootAt E hc) ?_
  obtain ⟨hg, hd⟩ := gd_some hd
  obtain ⟨_, S3, hc, hd⟩ := bn_some hd
  refine g_cV_n (n := 0) C (gk_X6).1 q1457 q1458 q1459 q137 q1460 (by decide +kernel) (by decide) (by decide) dX1_crawl_2_5 (As := []) (rest := []) rfl rfl (Nat.le_of_ble_eq_true rfl) hg (m_X6_begin E hc) ?_
  refine g_iconst (v := 0) C dX1_crawl_2_8 (by decide) ?_
  refine g_istore_n (L' := [(2, vI (0 : Int32)), (0, vR x0), (1, vI x1)]) C dX1_crawl_2_9 rfl (by decide) rfl ?_
  refine g_aload_n C dX1_crawl_2_10 rfl 1 rfl ?_
  obtain ⟨v5, hv5, hd⟩ := Option.bind_eq_some_iff.mp hd
  refine g_fld C gk_X1 (k := 1) (by decide) q386 (Or.inl rfl) dX1_crawl_2_11 (gR_v hv5) ?_
  obtain ⟨hg, hd⟩ := gd_some hd
  obtain ⟨v7, S6, hc, hd⟩ := bn_some hd
  refine g_cF_v (n := 0) C (gk_J4).1 q812 q843 q841 q99 q845 (List.mem_of_getElem? (i := 18) rfl) (by decide +kernel) (by decide) (by decide) dX1_crawl_2_14 (As := []) (rest := []) rfl rfl (Nat.le_of_ble_eq_true rfl) hg (mh_J3_iterator E hc) ?_
  refine g_astore_n (L' := [(3, vR v7), (2, vI (0 : Int32)), (0, vR x0), (1, vI x1)]) C dX1_crawl_2_19 rfl (by decide) rfl ?_
  refine g_sub [1, 0] rfl ?_
  exact w_X1_crawl_2_b20 C E Q FU _ _ _ hd
theorem m_X1_crawl_2 {Γ : GG} {HI : St → Heap → Prop} {l : Launch} (E : EH Γ HI l) {S : St} {a0 : Option Nat} {a1 : Int32} {r : (Int32 ⊕ String)} {S1 : St} (h : n_X1_crawl_2 S a0 a1 = some (r, S1)) : MS Γ HI l yX1_crawl_2 cX1_crawl_2 5 (some (Jvm.ClassFile.FieldType.int)) 9 S [vR a0, vI a1] (resI r) S1 := by
  refine MS_of E.ntr E.hx (by decide +kernel) rfl (Nat.le_of_ble_eq_true rfl) fun K e1 e2 e3 e4 hnm C Q => ?_
  subst e1; subst e2; subst e3
  exact w_X1_crawl_2_b0m C E Q S a0 a1 h

def n_X1_acts (S : St) (x0 : Option Nat) : Option (Int32 × St) :=
  (gR S x0 0 3).bind fun v1 =>
  gd (grc S v1 9) <|
  bn (h_J4_size S v1) fun v3 S2 =>
  rtI id (Jvm.ClassFile.FieldType.int) v3 S2
theorem w_X1_acts_b0m {K : KT} {r : Int32} {S1 : St} (C : GC K RX1 cX1_acts 1 3 []) (E : EH (kΓ K) (kHI K) (kl K)) (Q : GQ K (some (Jvm.ClassFile.FieldType.int)) (.inl (some (vI r))) S1) : ∀ (S : St) (x0 : Option Nat), n_X1_acts S x0 = some (r, S1) → G K 1 S 0 [(0, vR x0)] [] := by
  intro S x0 hd
  unfold n_X1_acts at hd
  refine g_aload_n C dX1_acts_0 rfl 0 rfl ?_
  obtain ⟨v1, hv1, hd⟩ := Option.bind_eq_some_iff.mp hd
  refine g_fld C gk_X1 (k := 3) (by decide) q388 (Or.inl rfl) dX1_acts_1 (gR_v hv1) ?_
  obtain ⟨hg, hd⟩ := gd_some hd
  obtain ⟨v3, S2, hc, hd⟩ := bn_some hd
  refine g_cV_v (n := 0) C (gk_J4).1 q802 q437 q2416 q100 q439 (by decide +kernel) (by decide) (by decide) dX1_acts_4 (As := []) (rest := []) rfl rfl (Nat.le_of_ble_eq_true rfl) hg (mh_J4_size E hc) ?_
  exact g_iret C Q hd dX1_acts_7
theorem m_X1_acts {Γ : GG} {HI : St → Heap → Prop} {l : Launch} (E : EH Γ HI l) {S : St} {a0 : Option Nat} {r : Int32} {S1 : St} (h : n_X1_acts S a0 = some (r, S1)) : MS Γ HI l yX1_acts cX1_acts 1 (some (Jvm.ClassFile.FieldType.int)) 3 S [vR a0] (.inl (some (vI r))) S1 := by
  refine MS_of E.ntr E.hx (by decide +kernel) rfl (Nat.le_of_ble_eq_true rfl) fun K e1 e2 e3 e4 hnm C Q => ?_
  subst e1; subst e2; subst e3
  exact w_X1_acts_b0m C E Q S a0 h

def n_X1_telling_b10 : Nat → St → Option Nat → Option (Option Nat × St)
  | 0 => fun _ _ => none
  | n + 1 => fun S x1 =>
    gd (grc S x1 13) <|
    bn (h_J29_hasNext S x1) fun v2 S1 =>
    if v2 = 0 then
      some (none, S1)
    else
      gd (grc S1 x1 13) <|
      bn (h_J29_next S1 x1) fun v4 S3 =>
      gd (gcst S3 v4 4) <|
      (gI S3 v4 4 2).bind fun v5 =>
      if v5 = 0 then
        (gR S3 v4 4 1).bind fun v6 =>
        gd (grc S3 v6 9) <|
        bn (h_J0_isEmpty S3 v6) fun v8 S7 =>
        if v8 = 0 then
          some (v4, S7)
        else
          (n_X1_telling_b10 n) S7 x1
      else
        some (v4, S3)
def n_X1_telling (S : St) (x0 : Option Nat) : Option (Option Nat × St) :=
  (gR S x0 0 1).bind fun v1 =>
  gd (grc S v1 9) <|
  bn (h_J3_iterator S v1) fun v3 S2 =>
  n_X1_telling_b10 FU S2 v3
theorem w_X1_telling_b10 {K : KT} {r : Option Nat} {S1 : St} (C : GC K RX1 cX1_telling 3 7 []) (E : EH (kΓ K) (kHI K) (kl K)) (Q : GQ K (some (Jvm.ClassFile.FieldType.object "SearchKeeper$Root")) (.inl (some (vR r))) S1) : ∀ (n : Nat) (S : St) (x1 : Option Nat), n_X1_telling_b10 n S x1 = some (r, S1) → G K 3 S 10 [(1, vR x1)] [] := by
  intro n
  induction n with
  | zero => intro S x1 hd; cases hd
  | succ n ih =>
    intro S x1 hd
    unfold n_X1_telling_b10 at hd
    refine g_aload_n C dX1_telling_10 rfl 0 rfl ?_
    obtain ⟨hg, hd⟩ := gd_some hd
    obtain ⟨v2, S1, hc, hd⟩ := bn_some hd
    refine g_cF_v (n := 0) C (gk_J29).1 q925 q951 q949 q129 q953 (List.mem_of_getElem? (i := 12) rfl) (by decide +kernel) (by decide) (by decide) dX1_telling_11 (As := []) (rest := []) rfl rfl (Nat.le_of_ble_eq_true rfl) hg (mh_J29_hasNext E hc) ?_
    refine g_if_eq (tgt := 51) C dX1_telling_16 (by decide) hd (fun hd => ?_) (fun hd => ?_)
    · refine g_null C dX1_telling_51 ?_
      exact g_aret C Q (Or.inl ⟨_, rfl⟩) hd dX1_telling_52
    · refine g_aload_n C dX1_telling_19 rfl 0 rfl ?_
      obtain ⟨hg, hd⟩ := gd_some hd
      obtain ⟨v4, S3, hc, hd⟩ := bn_some hd
      refine g_cF_v (n := 0) C (gk_J29).1 q955 q1047 q1045 q129 q1049 (List.mem_of_getElem? (i := 13) rfl) (by decide +kernel) (by decide) (by decide) dX1_telling_20 (As := []) (rest := []) rfl rfl (Nat.le_of_ble_eq_true rfl) hg (mh_J29_next E hc) ?_
      refine g_cast C (gk_X6).1 q1055 dX1_telling_25 hd (fun hd => ?_)
      refine g_astore_n (L' := [(2, vR v4), (1, vR x1)]) C dX1_telling_28 rfl (by decide) rfl ?_
      refine g_aload_n C dX1_telling_29 rfl 0 rfl ?_
      obtain ⟨v5, hv5, hd⟩ := Option.bind_eq_some_iff.mp hd
      refine g_fldN C gk_X6 (k := 2) (by decide) q1441 rfl dX1_telling_30 (gI_v hv5) ?_
      refine g_if_ne (tgt := 46) C dX1_telling_33 (by decide) hd (fun hd => ?_) (fun hd => ?_)
      · refine g_aload_n C dX1_telling_46 rfl 0 rfl ?_
        exact g_aret C Q (Or.inl ⟨_, rfl⟩) hd dX1_telling_47
      · refine g_aload_n C dX1_telling_36 rfl 0 rfl ?_
        obtain ⟨v6, hv6, hd⟩ := Option.bind_eq_some_iff.mp hd
        refine g_fldN C gk_X6 (k := 1) (by decide) q1439 rfl dX1_telling_37 (gR_v hv6) ?_
        obtain ⟨hg, hd⟩ := gd_some hd
        obtain ⟨v8, S7, hc, hd⟩ := bn_some hd
        refine g_cU_v (n := 0) C (gk_J4).1 q1056 q1057 q1060 q1059 q96 q1061 rfl (by decide +kernel) (by decide) (by decide) dX1_telling_40 (As := []) (rest := []) rfl rfl (Nat.le_of_ble_eq_true rfl) hg (mh_J0_isEmpty E hc) ?_
        refine g_if_ne (tgt := 48) C dX1_telling_43 (by decide) hd (fun hd => ?_) (fun hd => ?_)
        · refine g_goto (tgt := 10) C dX1_telling_48 (by decide) ?_
          refine g_sub [1] rfl ?_
          exact ih _ _ hd
        · refine g_aload_n C dX1_telling_46 rfl 0 rfl ?_
          exact g_aret C Q (Or.inl ⟨_, rfl⟩) hd dX1_telling_47
theorem w_X1_telling_b0m {K : KT} {r : Option Nat} {S1 : St} (C : GC K RX1 cX1_telling 3 7 []) (E : EH (kΓ K) (kHI K) (kl K)) (Q : GQ K (some (Jvm.ClassFile.FieldType.object "SearchKeeper$Root")) (.inl (some (vR r))) S1) : ∀ (S : St) (x0 : Option Nat), n_X1_telling S x0 = some (r, S1) → G K 3 S 0 [(0, vR x0)] [] := by
  intro S x0 hd
  unfold n_X1_telling at hd
  refine g_aload_n C dX1_telling_0 rfl 0 rfl ?_
  obtain ⟨v1, hv1, hd⟩ := Option.bind_eq_some_iff.mp hd
  refine g_fld C gk_X1 (k := 1) (by decide) q386 (Or.inl rfl) dX1_telling_1 (gR_v hv1) ?_
  obtain ⟨hg, hd⟩ := gd_some hd
  obtain ⟨v3, S2, hc, hd⟩ := bn_some hd
  refine g_cF_v (n := 0) C (gk_J4).1 q812 q843 q841 q99 q845 (List.mem_of_getElem? (i := 18) rfl) (by decide +kernel) (by decide) (by decide) dX1_telling_4 (As := []) (rest := []) rfl rfl (Nat.le_of_ble_eq_true rfl) hg (mh_J3_iterator E hc) ?_
  refine g_astore_n (L' := [(1, vR v3), (0, vR x0)]) C dX1_telling_9 rfl (by decide) rfl ?_
  refine g_sub [0] rfl ?_
  exact w_X1_telling_b10 C E Q FU _ _ hd
theorem m_X1_telling {Γ : GG} {HI : St → Heap → Prop} {l : Launch} (E : EH Γ HI l) {S : St} {a0 : Option Nat} {r : Option Nat} {S1 : St} (h : n_X1_telling S a0 = some (r, S1)) : MS Γ HI l yX1_telling cX1_telling 3 (some (Jvm.ClassFile.FieldType.object "SearchKeeper$Root")) 7 S [vR a0] (.inl (some (vR r))) S1 := by
  refine MS_of E.ntr E.hx (by decide +kernel) rfl (Nat.le_of_ble_eq_true rfl) fun K e1 e2 e3 e4 hnm C Q => ?_
  subst e1; subst e2; subst e3
  exact w_X1_telling_b0m C E Q S a0 h

def n_X1_crawling_b10 : Nat → St → Option Nat → Option (Option Nat × St)
  | 0 => fun _ _ => none
  | n + 1 => fun S x1 =>
    gd (grc S x1 13) <|
    bn (h_J29_hasNext S x1) fun v2 S1 =>
    if v2 = 0 then
      some (none, S1)
    else
      gd (grc S1 x1 13) <|
      bn (h_J29_next S1 x1) fun v4 S3 =>
      gd (gcst S3 v4 4) <|
      (gR S3 v4 4 3).bind fun v5 =>
      if v5 = none then
        (n_X1_crawling_b10 n) S3 x1
      else
        some (v4, S3)
def n_X1_crawling (S : St) (x0 : Option Nat) : Option (Option Nat × St) :=
  (gR S x0 0 1).bind fun v1 =>
  gd (grc S v1 9) <|
  bn (h_J3_iterator S v1) fun v3 S2 =>
  n_X1_crawling_b10 FU S2 v3
theorem w_X1_crawling_b10 {K : KT} {r : Option Nat} {S1 : St} (C : GC K RX1 cX1_crawling 3 7 []) (E : EH (kΓ K) (kHI K) (kl K)) (Q : GQ K (some (Jvm.ClassFile.FieldType.object "SearchKeeper$Root")) (.inl (some (vR r))) S1) : ∀ (n : Nat) (S : St) (x1 : Option Nat), n_X1_crawling_b10 n S x1 = some (r, S1) → G K 3 S 10 [(1, vR x1)] [] := by
  intro n
  induction n with
  | zero => intro S x1 hd; cases hd
  | succ n ih =>
    intro S x1 hd
    unfold n_X1_crawling_b10 at hd
    refine g_aload_n C dX1_crawling_10 rfl 0 rfl ?_
    obtain ⟨hg, hd⟩ := gd_some hd
    obtain ⟨v2, S1, hc, hd⟩ := bn_some hd
    refine g_cF_v (n := 0) C (gk_J29).1 q925 q951 q949 q129 q953 (List.mem_of_getElem? (i := 12) rfl) (by decide +kernel) (by decide) (by decide) dX1_crawling_11 (As := []) (rest := []) rfl rfl (Nat.le_of_ble_eq_true rfl) hg (mh_J29_hasNext E hc) ?_
    refine g_if_eq (tgt := 41) C dX1_crawling_16 (by decide) hd (fun hd => ?_) (fun hd => ?_)
    · refine g_null C dX1_crawling_41 ?_
      exact g_aret C Q (Or.inl ⟨_, rfl⟩) hd dX1_crawling_42
    · refine g_aload_n C dX1_crawling_19 rfl 0 rfl ?_
      obtain ⟨hg, hd⟩ := gd_some hd
      obtain ⟨v4, S3, hc, hd⟩ := bn_some hd
      refine g_cF_v (n := 0) C (gk_J29).1 q955 q1047 q1045 q129 q1049 (List.mem_of_getElem? (i := 13) rfl) (by decide +kernel) (by decide) (by decide) dX1_crawling_20 (As := []) (rest := []) rfl rfl (Nat.le_of_ble_eq_true rfl) hg (mh_J29_next E hc) ?_
      refine g_cast C (gk_X6).1 q1055 dX1_crawling_25 hd (fun hd => ?_)
      refine g_astore_n (L' := [(2, vR v4), (1, vR x1)]) C dX1_crawling_28 rfl (by decide) rfl ?_
      refine g_aload_n C dX1_crawling_29 rfl 0 rfl ?_
      obtain ⟨v5, hv5, hd⟩ := Option.bind_eq_some_iff.mp hd
      refine g_fldN C gk_X6 (k := 3) (by decide) q1443 rfl dX1_crawling_30 (gR_v hv5) ?_
      refine g_ifnull (tgt := 38) C dX1_crawling_33 (by decide) hd (fun hd => ?_) (fun hd => ?_)
      · refine g_goto (tgt := 10) C dX1_crawling_38 (by decide) ?_
        refine g_sub [1] rfl ?_
        exact ih _ _ hd
      · refine g_aload_n C dX1_crawling_36 rfl 0 rfl ?_
        exact g_aret C Q (Or.inl ⟨_, rfl⟩) hd dX1_crawling_37
theorem w_X1_crawling_b0m {K : KT} {r : Option Nat} {S1 : St} (C : GC K RX1 cX1_crawling 3 7 []) (E : EH (kΓ K) (kHI K) (kl K)) (Q : GQ K (some (Jvm.ClassFile.FieldType.object "SearchKeeper$Root")) (.inl (some (vR r))) S1) : ∀ (S : St) (x0 : Option Nat), n_X1_crawling S x0 = some (r, S1) → G K 3 S 0 [(0, vR x0)] [] := by
  intro S x0 hd
  unfold n_X1_crawling at hd
  refine g_aload_n C dX1_crawling_0 rfl 0 rfl ?_
  obtain ⟨v1, hv1, hd⟩ := Option.bind_eq_some_iff.mp hd
  refine g_fld C gk_X1 (k := 1) (by decide) q386 (Or.inl rfl) dX1_crawling_1 (gR_v hv1) ?_
  obtain ⟨hg, hd⟩ := gd_some hd
  obtain ⟨v3, S2, hc, hd⟩ := bn_some hd
  refine g_cF_v (n := 0) C (gk_J4).1 q812 q843 q841 q99 q845 (List.mem_of_getElem? (i := 18) rfl) (by decide +kernel) (by decide) (by decide) dX1_crawling_4 (As := []) (rest := []) rfl rfl (Nat.le_of_ble_eq_true rfl) hg (mh_J3_iterator E hc) ?_
  refine g_astore_n (L' := [(1, vR v3), (0, vR x0)]) C dX1_crawling_9 rfl (by decide) rfl ?_
  refine g_sub [0] rfl ?_
  exact w_X1_crawling_b10 C E Q FU _ _ hd
theorem m_X1_crawling {Γ : GG} {HI : St → Heap → Prop} {l : Launch} (E : EH Γ HI l) {S : St} {a0 : Option Nat} {r : Option Nat} {S1 : St} (h : n_X1_crawling S a0 = some (r, S1)) : MS Γ HI l yX1_crawling cX1_crawling 3 (some (Jvm.ClassFile.FieldType.object "SearchKeeper$Root")) 7 S [vR a0] (.inl (some (vR r))) S1 := by
  refine MS_of E.ntr E.hx (by decide +kernel) rfl (Nat.le_of_ble_eq_true rfl) fun K e1 e2 e3 e4 hnm C Q => ?_
  subst e1; subst e2; subst e3
  exact w_X1_crawling_b0m C E Q S a0 h

def n_X1_isQuiet (S : St) (x0 : Option Nat) : Option (Int32 × St) :=
  gd (grc S x0 0) <|
  bn (n_X1_telling S x0) fun v2 S1 =>
  if v2 = none then
    (gR S1 x0 0 3).bind fun v3 =>
    gd (grc S1 v3 9) <|
    bn (h_J0_isEmpty S1 v3) fun v5 S4 =>
    if v5 = 0 then
      rtI id (Jvm.ClassFile.FieldType.boolean) (0 : Int32) S4
    else
      gd (grc S4 x0 0) <|
      bn (n_X1_crawling S4 x0) fun v7 S6 =>
      if v7 = none then
        rtI id (Jvm.ClassFile.FieldType.boolean) (1 : Int32) S6
      else
        rtI id (Jvm.ClassFile.FieldType.boolean) (0 : Int32) S6
  else
    rtI id (Jvm.ClassFile.FieldType.boolean) (0 : Int32) S1
theorem w_X1_isQuiet_b0m {K : KT} {r : Int32} {S1 : St} (C : GC K RX1 cX1_isQuiet 1 8 []) (E : EH (kΓ K) (kHI K) (kl K)) (Q : GQ K (some (Jvm.ClassFile.FieldType.boolean)) (.inl (some (vI r))) S1) : ∀ (S : St) (x0 : Option Nat), n_X1_isQuiet S x0 = some (r, S1) → G K 1 S 0 [(0, vR x0)] [] := by
  intro S x0 hd
  unfold n_X1_isQuiet at hd
  refine g_aload_n C dX1_isQuiet_0 rfl 0 rfl ?_
  obtain ⟨hg, hd⟩ := gd_some hd
  obtain ⟨v2, S1, hc, hd⟩ := bn_some hd
  refine g_cV_v (n := 0) C (gk_X1).1 q807 q809 qs8 q95 q810 (by decide +kernel) (by decide) (by decide) dX1_isQuiet_1 (As := []) (rest := []) rfl rfl (Nat.le_of_ble_eq_true rfl) hg (m_X1_telling E hc) ?_
  refine g_ifnonnull (tgt := 28) C dX1_isQuiet_4 (by decide) hd (fun hd => ?_) (fun hd => ?_)
  · refine g_iconst (v := 0) C dX1_isQuiet_28 (by decide) ?_
    exact g_iret C Q hd dX1_isQuiet_29
  · refine g_aload_n C dX1_isQuiet_7 rfl 0 rfl ?_
    obtain ⟨v3, hv3, hd⟩ := Option.bind_eq_some_iff.mp hd
    refine g_fld C gk_X1 (k := 3) (by decide) q388 (Or.inl rfl) dX1_isQuiet_8 (gR_v hv3) ?_
    obtain ⟨hg, hd⟩ := gd_some hd
    obtain ⟨v5, S4, hc, hd⟩ := bn_some hd
    refine g_cU_v (n := 0) C (gk_J4).1 q1056 q1057 q1060 q1059 q96 q1061 rfl (by decide +kernel) (by decide) (by decide) dX1_isQuiet_11 (As := []) (rest := []) rfl rfl (Nat.le_of_ble_eq_true rfl) hg (mh_J0_isEmpty E hc) ?_
    refine g_if_eq (tgt := 28) C dX1_isQuiet_14 (by decide) hd (fun hd => ?_) (fun hd => ?_)
    · refine g_iconst (v := 0) C dX1_isQuiet_28 (by decide) ?_
      exact g_iret C Q hd dX1_isQuiet_29
    · refine g_aload_n C dX1_isQuiet_17 rfl 0 rfl ?_
      obtain ⟨hg, hd⟩ := gd_some hd
      obtain ⟨v7, S6, hc, hd⟩ := bn_some hd
      refine g_cV_v (n := 0) C (gk_X1).1 q1068 q1070 qs13 q95 q1071 (by decide +kernel) (by decide) (by decide) dX1_isQuiet_18 (As := []) (rest := []) rfl rfl (Nat.le_of_ble_eq_true rfl) hg (m_X1_crawling E hc) ?_
      refine g_ifnonnull (tgt := 28) C dX1_isQuiet_21 (by decide) hd (fun hd => ?_) (fun hd => ?_)
      · refine g_iconst (v := 0) C dX1_isQuiet_28 (by decide) ?_
        exact g_iret C Q hd dX1_isQuiet_29
      · refine g_iconst (v := 1) C dX1_isQuiet_24 (by decide) ?_
        refine g_goto (tgt := 29) C dX1_isQuiet_25 (by decide) ?_
        exact g_iret C Q hd dX1_isQuiet_29
theorem m_X1_isQuiet {Γ : GG} {HI : St → Heap → Prop} {l : Launch} (E : EH Γ HI l) {S : St} {a0 : Option Nat} {r : Int32} {S1 : St} (h : n_X1_isQuiet S a0 = some (r, S1)) : MS Γ HI l yX1_isQuiet cX1_isQuiet 1 (some (Jvm.ClassFile.FieldType.boolean)) 8 S [vR a0] (.inl (some (vI r))) S1 := by
  refine MS_of E.ntr E.hx (by decide +kernel) rfl (Nat.le_of_ble_eq_true rfl) fun K e1 e2 e3 e4 hnm C Q => ?_
  subst e1; subst e2; subst e3
  exact w_X1_isQuiet_b0m C E Q S a0 h

def n_X1_entries_b25 (k4 : St → Option Nat → Int32 → Int32 → Option (Int32 × St)) (S : St) (x0 : Option Nat) (x2 : Int32) (y0 : Int32) (y1 : Int32) : Option (Int32 × St) :=
  k4 S x0 (y1 + y0) (x2 + 1)
def n_X1_entries_b4 : Nat → St → Option Nat → Int32 → Int32 → Option (Int32 × St)
  | 0 => fun _ _ _ _ => none
  | n + 1 => fun S x0 x1 x2 =>
    if (60 : Int32) ≤ x2 then
      rtI id (Jvm.ClassFile.FieldType.int) x1 S
    else
      (gR S x0 0 2).bind fun v1 =>
      (aR S v1 5 x2).bind fun v2 =>
      if v2 = none then
        n_X1_entries_b25 (n_X1_entries_b4 n) S x0 x2 (0 : Int32) x1
      else
        n_X1_entries_b25 (n_X1_entries_b4 n) S x0 x2 (1 : Int32) x1
def n_X1_entries (S : St) (x0 : Option Nat) : Option (Int32 × St) :=
  n_X1_entries_b4 FU S x0 (0 : Int32) (0 : Int32)
theorem w_X1_entries_b25 {K : KT} {r : Int32} {S1 : St} (C : GC K RX1 cX1_entries 3 2 []) (E : EH (kΓ K) (kHI K) (kl K)) (Q : GQ K (some (Jvm.ClassFile.FieldType.int)) (.inl (some (vI r))) S1) {k4 : St → Option Nat → Int32 → Int32 → Option (Int32 × St)} (h4 : ∀ (S : St) (x0 : Option Nat) (x1 : Int32) (x2 : Int32), k4 S x0 x1 x2 = some (r, S1) → G K 3 S 4 [(0, vR x0), (1, vI x1), (2, vI x2)] []) : ∀ (S : St) (x0 : Option Nat) (x2 : Int32) (y0 : Int32) (y1 : Int32), n_X1_entries_b25 k4 S x0 x2 y0 y1 = some (r, S1) → G K 3 S 25 [(0, vR x0), (2, vI x2)] [vI y0, vI y1] := by
  intro S x0 x2 y0 y1 hd
  unfold n_X1_entries_b25 at hd
  refine g_iadd C dX1_entries_25 ?_
  refine g_istore_n (L' := [(1, vI (y1 + y0)), (0, vR x0), (2, vI x2)]) C dX1_entries_26 rfl (by decide) rfl ?_
  refine g_iinc (v := x2 + 1) (L' := [(2, vI (x2 + 1)), (1, vI (y1 + y0)), (0, vR x0)]) C dX1_entries_27 2 rfl rfl (by decide) rfl ?_
  refine g_goto (tgt := 4) C dX1_entries_30 (by decide) ?_
  refine g_sub [2, 1, 0] rfl ?_
  exact h4 _ _ _ _ hd
theorem w_X1_entries_b4 {K : KT} {r : Int32} {S1 : St} (C : GC K RX1 cX1_entries 3 2 []) (E : EH (kΓ K) (kHI K) (kl K)) (Q : GQ K (some (Jvm.ClassFile.FieldType.int)) (.inl (some (vI r))) S1) : ∀ (n : Nat) (S : St) (x0 : Option Nat) (x1 : Int32) (x2 : Int32), n_X1_entries_b4 n S x0 x1 x2 = some (r, S1) → G K 3 S 4 [(0, vR x0), (1, vI x1), (2, vI x2)] [] := by
  intro n
  induction n with
  | zero => intro S x0 x1 x2 hd; cases hd
  | succ n ih =>
    intro S x0 x1 x2 hd
    unfold n_X1_entries_b4 at hd
    refine g_iload_n C dX1_entries_4 rfl 2 rfl ?_
    refine g_bipush (v := 60) C dX1_entries_5 (by decide) ?_
    refine g_icmp_ge (tgt := 33) C dX1_entries_7 (by decide) hd (fun hd => ?_) (fun hd => ?_)
    · refine g_iload_n C dX1_entries_33 rfl 1 rfl ?_
      exact g_iret C Q hd dX1_entries_34
    · refine g_iload_n C dX1_entries_10 rfl 1 rfl ?_
      refine g_aload_n C dX1_entries_11 rfl 0 rfl ?_
      obtain ⟨v1, hv1, hd⟩ := Option.bind_eq_some_iff.mp hd
      refine g_fld C gk_X1 (k := 2) (by decide) q387 (Or.inl rfl) dX1_entries_12 (gR_v hv1) ?_
      refine g_iload_n C dX1_entries_15 rfl 2 rfl ?_
      obtain ⟨v2, hv2, hd⟩ := Option.bind_eq_some_iff.mp hd
      refine g_aald C 5 (by decide) dX1_entries_16 hv2 ?_
      refine g_ifnonnull (tgt := 24) C dX1_entries_17 (by decide) hd (fun hd => ?_) (fun hd => ?_)
      · refine g_iconst (v := 1) C dX1_entries_24 (by decide) ?_
        refine g_sub [0, 2] rfl ?_
        exact w_X1_entries_b25 C E Q ih _ _ _ _ _ hd
      · refine g_iconst (v := 0) C dX1_entries_20 (by decide) ?_
        refine g_goto (tgt := 25) C dX1_entries_21 (by decide) ?_
        refine g_sub [0, 2] rfl ?_
        exact w_X1_entries_b25 C E Q ih _ _ _ _ _ hd
theorem w_X1_entries_b0m {K : KT} {r : Int32} {S1 : St} (C : GC K RX1 cX1_entries 3 2 []) (E : EH (kΓ K) (kHI K) (kl K)) (Q : GQ K (some (Jvm.ClassFile.FieldType.int)) (.inl (some (vI r))) S1) : ∀ (S : St) (x0 : Option Nat), n_X1_entries S x0 = some (r, S1) → G K 3 S 0 [(0, vR x0)] [] := by
  intro S x0 hd
  unfold n_X1_entries at hd
  refine g_iconst (v := 0) C dX1_entries_0 (by decide) ?_
  refine g_istore_n (L' := [(1, vI (0 : Int32)), (0, vR x0)]) C dX1_entries_1 rfl (by decide) rfl ?_
  refine g_iconst (v := 0) C dX1_entries_2 (by decide) ?_
  refine g_istore_n (L' := [(2, vI (0 : Int32)), (1, vI (0 : Int32)), (0, vR x0)]) C dX1_entries_3 rfl (by decide) rfl ?_
  refine g_sub [2, 1, 0] rfl ?_
  exact w_X1_entries_b4 C E Q FU _ _ _ _ hd
theorem m_X1_entries {Γ : GG} {HI : St → Heap → Prop} {l : Launch} (E : EH Γ HI l) {S : St} {a0 : Option Nat} {r : Int32} {S1 : St} (h : n_X1_entries S a0 = some (r, S1)) : MS Γ HI l yX1_entries cX1_entries 3 (some (Jvm.ClassFile.FieldType.int)) 2 S [vR a0] (.inl (some (vI r))) S1 := by
  refine MS_of E.ntr E.hx (by decide +kernel) rfl (Nat.le_of_ble_eq_true rfl) fun K e1 e2 e3 e4 hnm C Q => ?_
  subst e1; subst e2; subst e3
  exact w_X1_entries_b0m C E Q S a0 h

def n_X1_checkMade (S : St) (x0 : Option Nat) (x1 : Int32) : Option ((Unit ⊕ String) × St) :=
  (gR S x0 0 0).bind fun v1 =>
  gd (grc S v1 8) <|
  bn (h_J2_size S v1) fun v3 S2 =>
  bn (n_X1_isIn S2 x1 (0 : Int32) (v3 - (1 : Int32))) fun v5 S4 =>
  tbn (n_X1_need S4 v5) fun _ S6 =>
  some (Sum.inl (), S6)
theorem w_X1_checkMade_b0m {K : KT} {r : (Unit ⊕ String)} {S1 : St} (C : GC K RX1 cX1_checkMade 2 9 []) (E : EH (kΓ K) (kHI K) (kl K)) (Q : GQ K none (resV r) S1) : ∀ (S : St) (x0 : Option Nat) (x1 : Int32), n_X1_checkMade S x0 x1 = some (r, S1) → G K 2 S 0 [(0, vR x0), (1, vI x1)] [] := by
  intro S x0 x1 hd
  unfold n_X1_checkMade at hd
  refine g_iload_n C dX1_checkMade_0 rfl 1 rfl ?_
  refine g_iconst (v := 0) C dX1_checkMade_1 (by decide) ?_
  refine g_aload_n C dX1_checkMade_2 rfl 0 rfl ?_
  obtain ⟨v1, hv1, hd⟩ := Option.bind_eq_some_iff.mp hd
  refine g_fld C gk_X1 (k := 0) (by decide) q385 (Or.inl rfl) dX1_checkMade_3 (gR_v hv1) ?_
  obtain ⟨hg, hd⟩ := gd_some hd
  obtain ⟨v3, S2, hc, hd⟩ := bn_some hd
  refine g_cF_v (n := 0) C (gk_J2).1 q427 q432 q430 q98 q434 (List.mem_of_getElem? (i := 1) rfl) (by decide +kernel) (by decide) (by decide) dX1_checkMade_6 (As := []) (rest := [vI (0 : Int32), vI x1]) rfl rfl (Nat.le_of_ble_eq_true rfl) hg (mh_J2_size E hc) ?_
  refine g_iconst (v := 1) C dX1_checkMade_11 (by decide) ?_
  refine g_isub C dX1_checkMade_12 ?_
  obtain ⟨v5, S4, hc, hd⟩ := bn_some hd
  refine g_cS_v (n := 3) C q1130 q1131 q95 q1132 (by decide +kernel) (by decide) (by decide) dX1_checkMade_13 (As := [vI x1, vI (0 : Int32), vI (v3 - (1 : Int32))]) (rest := []) rfl rfl (Nat.le_of_ble_eq_true rfl) (m_X1_isIn E hc) ?_
  rcases tbn_some hd with ⟨X9, S6, hc, hz⟩ | ⟨_, S6, hc, hd⟩
  · cases hz; exact g_cS_x (n := 1) C q1133 q1134 q95 q1135 (by decide +kernel) (by decide) (by decide) dX1_checkMade_16 (As := [vI v5]) (rest := []) rfl rfl (Nat.le_of_ble_eq_true rfl) (m_X1_need E hc) (g_out C Q)
  refine g_cS_n (n := 1) C q1133 q1134 q95 q1135 (by decide +kernel) (by decide) (by decide) dX1_checkMade_16 (As := [vI v5]) (rest := []) rfl rfl (Nat.le_of_ble_eq_true rfl) (m_X1_need E hc) ?_
  exact g_vretT C Q hd dX1_checkMade_19
theorem m_X1_checkMade {Γ : GG} {HI : St → Heap → Prop} {l : Launch} (E : EH Γ HI l) {S : St} {a0 : Option Nat} {a1 : Int32} {r : (Unit ⊕ String)} {S1 : St} (h : n_X1_checkMade S a0 a1 = some (r, S1)) : MS Γ HI l yX1_checkMade cX1_checkMade 2 none 9 S [vR a0, vI a1] (resV r) S1 := by
  refine MS_of E.ntr E.hx (by decide +kernel) rfl (Nat.le_of_ble_eq_true rfl) fun K e1 e2 e3 e4 hnm C Q => ?_
  subst e1; subst e2; subst e3
  exact w_X1_checkMade_b0m C E Q S a0 a1 h

def n_X1_edition (S : St) (x0 : Option Nat) (x1 : Int32) : Option ((Int32 ⊕ String) × St) :=
  gd (grc S x0 0) <|
  tbn (n_X1_checkMade S x0 x1) fun _ S1 =>
  (gR S1 x0 0 2).bind fun v3 =>
  (aR S1 v3 5 x1).bind fun v4 =>
  if v4 = none then
    rtI Sum.inl (Jvm.ClassFile.FieldType.int) (-1 : Int32) S1
  else
    (gR S1 x0 0 2).bind fun v5 =>
    (aR S1 v5 5 x1).bind fun v6 =>
    (gI S1 v6 5 3).bind fun v7 =>
    rtI Sum.inl (Jvm.ClassFile.FieldType.int) v7 S1
theorem w_X1_edition_b0m {K : KT} {r : (Int32 ⊕ String)} {S1 : St} (C : GC K RX1 cX1_edition 2 10 []) (E : EH (kΓ K) (kHI K) (kl K)) (Q : GQ K (some (Jvm.ClassFile.FieldType.int)) (resI r) S1) : ∀ (S : St) (x0 : Option Nat) (x1 : Int32), n_X1_edition S x0 x1 = some (r, S1) → G K 2 S 0 [(0, vR x0), (1, vI x1)] [] := by
  intro S x0 x1 hd
  unfold n_X1_edition at hd
  refine g_aload_n C dX1_edition_0 rfl 0 rfl ?_
  refine g_iload_n C dX1_edition_1 rfl 1 rfl ?_
  obtain ⟨hg, hd⟩ := gd_some hd
  rcases tbn_some hd with ⟨X9, S1, hc, hz⟩ | ⟨_, S1, hc, hd⟩
  · cases hz; exact g_cV_x (n := 1) C (gk_X1).1 q1891 q1893 qs48 q95 q1894 (by decide +kernel) (by decide) (by decide) dX1_edition_2 (As := [vI x1]) (rest := []) rfl rfl (Nat.le_of_ble_eq_true rfl) hg (m_X1_checkMade E hc) (g_out C Q)
  refine g_cV_n (n := 1) C (gk_X1).1 q1891 q1893 qs48 q95 q1894 (by decide +kernel) (by decide) (by decide) dX1_edition_2 (As := [vI x1]) (rest := []) rfl rfl (Nat.le_of_ble_eq_true rfl) hg (m_X1_checkMade E hc) ?_
  refine g_aload_n C dX1_edition_5 rfl 0 rfl ?_
  obtain ⟨v3, hv3, hd⟩ := Option.bind_eq_some_iff.mp hd
  refine g_fld C gk_X1 (k := 2) (by decide) q387 (Or.inl rfl) dX1_edition_6 (gR_v hv3) ?_
  refine g_iload_n C dX1_edition_9 rfl 1 rfl ?_
  obtain ⟨v4, hv4, hd⟩ := Option.bind_eq_some_iff.mp hd
  refine g_aald C 5 (by decide) dX1_edition_10 hv4 ?_
  refine g_ifnonnull (tgt := 18) C dX1_edition_11 (by decide) hd (fun hd => ?_) (fun hd => ?_)
  · refine g_aload_n C dX1_edition_18 rfl 0 rfl ?_
    obtain ⟨v5, hv5, hd⟩ := Option.bind_eq_some_iff.mp hd
    refine g_fld C gk_X1 (k := 2) (by decide) q387 (Or.inl rfl) dX1_edition_19 (gR_v hv5) ?_
    refine g_iload_n C dX1_edition_22 rfl 1 rfl ?_
    obtain ⟨v6, hv6, hd⟩ := Option.bind_eq_some_iff.mp hd
    refine g_aald C 5 (by decide) dX1_edition_23 hv6 ?_
    obtain ⟨v7, hv7, hd⟩ := Option.bind_eq_some_iff.mp hd
    refine g_fldN C gk_X7 (k := 3) (by decide) q1688 rfl dX1_edition_24 (gI_v hv7) ?_
    exact g_iretT C Q hd dX1_edition_27
  · refine g_iconst (v := (-1)) C dX1_edition_14 (by decide) ?_
    refine g_goto (tgt := 27) C dX1_edition_15 (by decide) ?_
    exact g_iretT C Q hd dX1_edition_27
theorem m_X1_edition {Γ : GG} {HI : St → Heap → Prop} {l : Launch} (E : EH Γ HI l) {S : St} {a0 : Option Nat} {a1 : Int32} {r : (Int32 ⊕ String)} {S1 : St} (h : n_X1_edition S a0 a1 = some (r, S1)) : MS Γ HI l yX1_edition cX1_edition 2 (some (Jvm.ClassFile.FieldType.int)) 10 S [vR a0, vI a1] (resI r) S1 := by
  refine MS_of E.ntr E.hx (by decide +kernel) rfl (Nat.le_of_ble_eq_true rfl) fun K e1 e2 e3 e4 hnm C Q => ?_
  subst e1; subst e2; subst e3
  exact w_X1_edition_b0m C E Q S a0 a1 h

def n_X1_stale_b138 (k4 : St → Option Nat → Int32 → Int32 → Option (Int32 × St)) (S : St) (x0 : Option Nat) (x2 : Int32) (y0 : Int32) (y1 : Int32) : Option (Int32 × St) :=
  k4 S x0 (y1 + y0) (x2 + 1)
def n_X1_stale_b120 (k4 : St → Option Nat → Int32 → Int32 → Option (Int32 × St)) (S : St) (x0 : Option Nat) (x2 : Int32) (y0 : Int32) : Option (Int32 × St) :=
  n_X1_stale_b138 k4 S x0 x2 (0 : Int32) y0
def n_X1_stale_b100 (k4 : St → Option Nat → Int32 → Int32 → Option (Int32 × St)) (S : St) (x0 : Option Nat) (x1 : Int32) (x2 : Int32) (x3 : Option Nat) (x4 : Option Nat) (x5 : Int32) (y0 : Int32) : Option (Int32 × St) :=
  if x5 = 0 then
    if x4 = none then
      n_X1_stale_b138 k4 S x0 x2 (0 : Int32) x1
    else
      n_X1_stale_b138 k4 S x0 x2 (1 : Int32) x1
  else
    (gI S x3 1 1).bind fun v1 =>
    if v1 = 0 then
      if y0 = 0 then
        n_X1_stale_b138 k4 S x0 x2 (1 : Int32) x1
      else
        n_X1_stale_b120 k4 S x0 x2 x1
    else
      n_X1_stale_b120 k4 S x0 x2 x1
def n_X1_stale_b99 (k4 : St → Option Nat → Int32 → Int32 → Option (Int32 × St)) (S : St) (x0 : Option Nat) (x1 : Int32) (x2 : Int32) (x3 : Option Nat) (x4 : Option Nat) (x5 : Int32) : Option (Int32 × St) :=
  n_X1_stale_b100 k4 S x0 x1 x2 x3 x4 x5 (0 : Int32)
def n_X1_stale_b52 (k4 : St → Option Nat → Int32 → Int32 → Option (Int32 × St)) (S : St) (x0 : Option Nat) (x1 : Int32) (x2 : Int32) (x3 : Option Nat) (x4 : Option Nat) (y0 : Int32) : Option (Int32 × St) :=
  if x4 = none then
    n_X1_stale_b99 k4 S x0 x1 x2 x3 x4 y0
  else
    (gR S x4 5 1).bind fun v1 =>
    (gR S x3 1 2).bind fun v2 =>
    if v1 = v2 then
      (gI S x4 5 2).bind fun v3 =>
      (gI S x3 1 3).bind fun v4 =>
      if v3 = v4 then
        (gI S x4 5 3).bind fun v5 =>
        (gI S x3 1 4).bind fun v6 =>
        if v5 = v6 then
          n_X1_stale_b100 k4 S x0 x1 x2 x3 x4 y0 (1 : Int32)
        else
          n_X1_stale_b99 k4 S x0 x1 x2 x3 x4 y0
      else
        n_X1_stale_b99 k4 S x0 x1 x2 x3 x4 y0
    else
      n_X1_stale_b99 k4 S x0 x1 x2 x3 x4 y0
def n_X1_stale_b4 : Nat → St → Option Nat → Int32 → Int32 → Option (Int32 × St)
  | 0 => fun _ _ _ _ => none
  | n + 1 => fun S x0 x1 x2 =>
    (gR S x0 0 0).bind fun v1 =>
    gd (grc S v1 8) <|
    bn (h_J2_size S v1) fun v3 S2 =>
    if v3 ≤ x2 then
      rtI id (Jvm.ClassFile.FieldType.int) x1 S2
    else
      (gR S2 x0 0 0).bind fun v4 =>
      gd (grc S2 v4 8) <|
      bn (h_J2_get S2 v4 x2) fun v6 S5 =>
      gd (gcst S5 v6 1) <|
      (gR S5 x0 0 2).bind fun v7 =>
      (aR S5 v7 5 x2).bind fun v8 =>
      gd (grc S5 x0 0) <|
      bn (n_X1_above S5 x0 v6) fun v10 S9 =>
      if v10 = none then
        n_X1_stale_b52 (n_X1_stale_b4 n) S9 x0 x1 x2 v6 v8 (0 : Int32)
      else
        n_X1_stale_b52 (n_X1_stale_b4 n) S9 x0 x1 x2 v6 v8 (1 : Int32)
def n_X1_stale (S : St) (x0 : Option Nat) : Option (Int32 × St) :=
  n_X1_stale_b4 FU S x0 (0 : Int32) (0 : Int32)
theorem w_X1_stale_b138 {K : KT} {r : Int32} {S1 : St} (C : GC K RX1 cX1_stale 7 8 []) (E : EH (kΓ K) (kHI K) (kl K)) (Q : GQ K (some (Jvm.ClassFile.FieldType.int)) (.inl (some (vI r))) S1) {k4 : St → Option Nat → Int32 → Int32 → Option (Int32 × St)} (h4 : ∀ (S : St) (x0 : Option Nat) (x1 : Int32) (x2 : Int32), k4 S x0 x1 x2 = some (r, S1) → G K 7 S 4 [(0, vR x0), (1, vI x1), (2, vI x2)] []) : ∀ (S : St) (x0 : Option Nat) (x2 : Int32) (y0 : Int32) (y1 : Int32), n_X1_stale_b138 k4 S x0 x2 y0 y1 = some (r, S1) → G K 7 S 138 [(0, vR x0), (2, vI x2)] [vI y0, vI y1] := by
  intro S x0 x2 y0 y1 hd
  unfold n_X1_stale_b138 at hd
  refine g_iadd C dX1_stale_138 ?_
  refine g_istore_n (L' := [(1, vI (y1 + y0)), (0, vR x0), (2, vI x2)]) C dX1_stale_139 rfl (by decide) rfl ?_
  refine g_iinc (v := x2 + 1) (L' := [(2, vI (x2 + 1)), (1, vI (y1 + y0)), (0, vR x0)]) C dX1_stale_140 2 rfl rfl (by decide) rfl ?_
  refine g_goto (tgt := 4) C dX1_stale_143 (by decide) ?_
  refine g_sub [2, 1, 0] rfl ?_
  exact h4 _ _ _ _ hd
theorem w_X1_stale_b120 {K : KT} {r : Int32} {S1 : St} (C : GC K RX1 cX1_stale 7 8 []) (E : EH (kΓ K) (kHI K) (kl K)) (Q : GQ K (some (Jvm.ClassFile.FieldType.int)) (.inl (some (vI r))) S1) {k4 : St → Option Nat → Int32 → Int32 → Option (Int32 × St)} (h4 : ∀ (S : St) (x0 : Option Nat) (x1 : Int32) (x2 : Int32), k4 S x0 x1 x2 = some (r, S1) → G K 7 S 4 [(0, vR x0), (1, vI x1), (2, vI x2)] []) : ∀ (S : St) (x0 : Option Nat) (x2 : Int32) (y0 : Int32), n_X1_stale_b120 k4 S x0 x2 y0 = some (r, S1) → G K 7 S 120 [(0, vR x0), (2, vI x2)] [vI y0] := by
  intro S x0 x2 y0 hd
  unfold n_X1_stale_b120 at hd
  refine g_iconst (v := 0) C dX1_stale_120 (by decide) ?_
  refine g_goto (tgt := 138) C dX1_stale_121 (by decide) ?_
  refine g_sub [0, 1] rfl ?_
  exact w_X1_stale_b138 C E Q h4 _ _ _ _ _ hd
theorem w_X1_stale_b100 {K : KT} {r : Int32} {S1 : St} (C : GC K RX1 cX1_stale 7 8 []) (E : EH (kΓ K) (kHI K) (kl K)) (Q : GQ K (some (Jvm.ClassFile.FieldType.int)) (.inl (some (vI r))) S1) {k4 : St → Option Nat → Int32 → Int32 → Option (Int32 × St)} (h4 : ∀ (S : St) (x0 : Option Nat) (x1 : Int32) (x2 : Int32), k4 S x0 x1 x2 = some (r, S1) → G K 7 S 4 [(0, vR x0), (1, vI x1), (2, vI x2)] []) : ∀ (S : St) (x0 : Option Nat) (x1 : Int32) (x2 : Int32) (x3 : Option Nat) (x4 : Option Nat) (x5 : Int32) (y0 : Int32), n_X1_stale_b100 k4 S x0 x1 x2 x3 x4 x5 y0 = some (r, S1) → G K 7 S 100 [(0, vR x0), (1, vI x1), (2, vI x2), (3, vR x3), (4, vR x4), (5, vI x5)] [vI y0] := by
  intro S x0 x1 x2 x3 x4 x5 y0 hd
  unfold n_X1_stale_b100 at hd
  refine g_istore (L' := [(6, vI y0), (0, vR x0), (1, vI x1), (2, vI x2), (3, vR x3), (4, vR x4), (5, vI x5)]) C dX1_stale_100 (by decide) rfl ?_
  refine g_iload_n C dX1_stale_102 rfl 2 rfl ?_
  refine g_iload C dX1_stale_103 6 rfl ?_
  refine g_if_eq (tgt := 128) C dX1_stale_105 (by decide) hd (fun hd => ?_) (fun hd => ?_)
  · refine g_aload C dX1_stale_128 5 rfl ?_
    refine g_ifnonnull (tgt := 137) C dX1_stale_130 (by decide) hd (fun hd => ?_) (fun hd => ?_)
    · refine g_iconst (v := 1) C dX1_stale_137 (by decide) ?_
      refine g_sub [1, 3] rfl ?_
      exact w_X1_stale_b138 C E Q h4 _ _ _ _ _ hd
    · refine g_iconst (v := 0) C dX1_stale_133 (by decide) ?_
      refine g_goto (tgt := 138) C dX1_stale_134 (by decide) ?_
      refine g_sub [1, 3] rfl ?_
      exact w_X1_stale_b138 C E Q h4 _ _ _ _ _ hd
  · refine g_aload_n C dX1_stale_108 rfl 4 rfl ?_
    obtain ⟨v1, hv1, hd⟩ := Option.bind_eq_some_iff.mp hd
    refine g_fldN C gk_X2 (k := 1) (by decide) q242 rfl dX1_stale_109 (gI_v hv1) ?_
    refine g_if_ne (tgt := 120) C dX1_stale_112 (by decide) hd (fun hd => ?_) (fun hd => ?_)
    · refine g_sub [1, 3] rfl ?_
      exact w_X1_stale_b120 C E Q h4 _ _ _ _ hd
    · refine g_iload C dX1_stale_115 0 rfl ?_
      refine g_if_eq (tgt := 124) C dX1_stale_117 (by decide) hd (fun hd => ?_) (fun hd => ?_)
      · refine g_iconst (v := 1) C dX1_stale_124 (by decide) ?_
        refine g_goto (tgt := 138) C dX1_stale_125 (by decide) ?_
        refine g_sub [1, 3] rfl ?_
        exact w_X1_stale_b138 C E Q h4 _ _ _ _ _ hd
      · refine g_sub [1, 3] rfl ?_
        exact w_X1_stale_b120 C E Q h4 _ _ _ _ hd
theorem w_X1_stale_b99 {K : KT} {r : Int32} {S1 : St} (C : GC K RX1 cX1_stale 7 8 []) (E : EH (kΓ K) (kHI K) (kl K)) (Q : GQ K (some (Jvm.ClassFile.FieldType.int)) (.inl (some (vI r))) S1) {k4 : St → Option Nat → Int32 → Int32 → Option (Int32 × St)} (h4 : ∀ (S : St) (x0 : Option Nat) (x1 : Int32) (x2 : Int32), k4 S x0 x1 x2 = some (r, S1) → G K 7 S 4 [(0, vR x0), (1, vI x1), (2, vI x2)] []) : ∀ (S : St) (x0 : Option Nat) (x1 : Int32) (x2 : Int32) (x3 : Option Nat) (x4 : Option Nat) (x5 : Int32), n_X1_stale_b99 k4 S x0 x1 x2 x3 x4 x5 = some (r, S1) → G K 7 S 99 [(0, vR x0), (1, vI x1), (2, vI x2), (3, vR x3), (4, vR x4), (5, vI x5)] [] := by
  intro S x0 x1 x2 x3 x4 x5 hd
  unfold n_X1_stale_b99 at hd
  refine g_iconst (v := 0) C dX1_stale_99 (by decide) ?_
  refine g_sub [0, 1, 2, 3, 4, 5] rfl ?_
  exact w_X1_stale_b100 C E Q h4 _ _ _ _ _ _ _ _ hd
theorem w_X1_stale_b52 {K : KT} {r : Int32} {S1 : St} (C : GC K RX1 cX1_stale 7 8 []) (E : EH (kΓ K) (kHI K) (kl K)) (Q : GQ K (some (Jvm.ClassFile.FieldType.int)) (.inl (some (vI r))) S1) {k4 : St → Option Nat → Int32 → Int32 → Option (Int32 × St)} (h4 : ∀ (S : St) (x0 : Option Nat) (x1 : Int32) (x2 : Int32), k4 S x0 x1 x2 = some (r, S1) → G K 7 S 4 [(0, vR x0), (1, vI x1), (2, vI x2)] []) : ∀ (S : St) (x0 : Option Nat) (x1 : Int32) (x2 : Int32) (x3 : Option Nat) (x4 : Option Nat) (y0 : Int32), n_X1_stale_b52 k4 S x0 x1 x2 x3 x4 y0 = some (r, S1) → G K 7 S 52 [(0, vR x0), (1, vI x1), (2, vI x2), (3, vR x3), (4, vR x4)] [vI y0] := by
  intro S x0 x1 x2 x3 x4 y0 hd
  unfold n_X1_stale_b52 at hd
  refine g_istore (L' := [(5, vI y0), (0, vR x0), (1, vI x1), (2, vI x2), (3, vR x3), (4, vR x4)]) C dX1_stale_52 (by decide) rfl ?_
  refine g_aload C dX1_stale_54 5 rfl ?_
  refine g_ifnull (tgt := 99) C dX1_stale_56 (by decide) hd (fun hd => ?_) (fun hd => ?_)
  · refine g_sub [1, 2, 3, 4, 5, 0] rfl ?_
    exact w_X1_stale_b99 C E Q h4 _ _ _ _ _ _ _ hd
  · refine g_aload C dX1_stale_59 5 rfl ?_
    obtain ⟨v1, hv1, hd⟩ := Option.bind_eq_some_iff.mp hd
    refine g_fldN C gk_X7 (k := 1) (by decide) q1686 rfl dX1_stale_61 (gR_v hv1) ?_
    refine g_aload_n C dX1_stale_64 rfl 4 rfl ?_
    obtain ⟨v2, hv2, hd⟩ := Option.bind_eq_some_iff.mp hd
    refine g_fldN C gk_X2 (k := 2) (by decide) q244 rfl dX1_stale_65 (gR_v hv2) ?_
    refine g_acmp_ne (tgt := 99) C dX1_stale_68 (by decide) hd (fun hd => ?_) (fun hd => ?_)
    · refine g_sub [1, 2, 3, 4, 5, 0] rfl ?_
      exact w_X1_stale_b99 C E Q h4 _ _ _ _ _ _ _ hd
    · refine g_aload C dX1_stale_71 5 rfl ?_
      obtain ⟨v3, hv3, hd⟩ := Option.bind_eq_some_iff.mp hd
      refine g_fldN C gk_X7 (k := 2) (by decide) q1687 rfl dX1_stale_73 (gI_v hv3) ?_
      refine g_aload_n C dX1_stale_76 rfl 4 rfl ?_
      obtain ⟨v4, hv4, hd⟩ := Option.bind_eq_some_iff.mp hd
      refine g_fldN C gk_X2 (k := 3) (by decide) q245 rfl dX1_stale_77 (gI_v hv4) ?_
      refine g_icmp_ne (tgt := 99) C dX1_stale_80 (by decide) hd (fun hd => ?_) (fun hd => ?_)
      · refine g_sub [1, 2, 3, 4, 5, 0] rfl ?_
        exact w_X1_stale_b99 C E Q h4 _ _ _ _ _ _ _ hd
      · refine g_aload C dX1_stale_83 5 rfl ?_
        obtain ⟨v5, hv5, hd⟩ := Option.bind_eq_some_iff.mp hd
        refine g_fldN C gk_X7 (k := 3) (by decide) q1688 rfl dX1_stale_85 (gI_v hv5) ?_
        refine g_aload_n C dX1_stale_88 rfl 4 rfl ?_
        obtain ⟨v6, hv6, hd⟩ := Option.bind_eq_some_iff.mp hd
        refine g_fldN C gk_X2 (k := 4) (by decide) q247 rfl dX1_stale_89 (gI_v hv6) ?_
        refine g_icmp_ne (tgt := 99) C dX1_stale_92 (by decide) hd (fun hd => ?_) (fun hd => ?_)
        · refine g_sub [1, 2, 3, 4, 5, 0] rfl ?_
          exact w_X1_stale_b99 C E Q h4 _ _ _ _ _ _ _ hd
        · refine g_iconst (v := 1) C dX1_stale_95 (by decide) ?_
          refine g_goto (tgt := 100) C dX1_stale_96 (by decide) ?_
          refine g_sub [1, 2, 3, 4, 5, 0] rfl ?_
          exact w_X1_stale_b100 C E Q h4 _ _ _ _ _ _ _ _ hd
theorem w_X1_stale_b4 {K : KT} {r : Int32} {S1 : St} (C : GC K RX1 cX1_stale 7 8 []) (E : EH (kΓ K) (kHI K) (kl K)) (Q : GQ K (some (Jvm.ClassFile.FieldType.int)) (.inl (some (vI r))) S1) : ∀ (n : Nat) (S : St) (x0 : Option Nat) (x1 : Int32) (x2 : Int32), n_X1_stale_b4 n S x0 x1 x2 = some (r, S1) → G K 7 S 4 [(0, vR x0), (1, vI x1), (2, vI x2)] [] := by
  intro n
  induction n with
  | zero => intro S x0 x1 x2 hd; cases hd
  | succ n ih =>
    intro S x0 x1 x2 hd
    unfold n_X1_stale_b4 at hd
    refine g_iload_n C dX1_stale_4 rfl 2 rfl ?_
    refine g_aload_n C dX1_stale_5 rfl 0 rfl ?_
    obtain ⟨v1, hv1, hd⟩ := Option.bind_eq_some_iff.mp hd
    refine g_fld C gk_X1 (k := 0) (by decide) q385 (Or.inl rfl) dX1_stale_6 (gR_v hv1) ?_
    obtain ⟨hg, hd⟩ := gd_some hd
    obtain ⟨v3, S2, hc, hd⟩ := bn_some hd
    refine g_cF_v (n := 0) C (gk_J2).1 q427 q432 q430 q98 q434 (List.mem_of_getElem? (i := 1) rfl) (by decide +kernel) (by decide) (by decide) dX1_stale_9 (As := []) (rest := [vI x2]) rfl rfl (Nat.le_of_ble_eq_true rfl) hg (mh_J2_size E hc) ?_
    refine g_icmp_ge (tgt := 146) C dX1_stale_14 (by decide) hd (fun hd => ?_) (fun hd => ?_)
    · refine g_iload_n C dX1_stale_146 rfl 1 rfl ?_
      exact g_iret C Q hd dX1_stale_147
    · refine g_aload_n C dX1_stale_17 rfl 0 rfl ?_
      obtain ⟨v4, hv4, hd⟩ := Option.bind_eq_some_iff.mp hd
      refine g_fld C gk_X1 (k := 0) (by decide) q385 (Or.inl rfl) dX1_stale_18 (gR_v hv4) ?_
      refine g_iload_n C dX1_stale_21 rfl 2 rfl ?_
      obtain ⟨hg, hd⟩ := gd_some hd
      obtain ⟨v6, S5, hc, hd⟩ := bn_some hd
      refine g_cF_v (n := 1) C (gk_J2).1 q441 q446 q444 q98 q448 (List.mem_of_getElem? (i := 2) rfl) (by decide +kernel) (by decide) (by decide) dX1_stale_22 (As := [vI x2]) (rest := []) rfl rfl (Nat.le_of_ble_eq_true rfl) hg (mh_J2_get E hc) ?_
      refine g_cast C (gk_X2).1 q231 dX1_stale_27 hd (fun hd => ?_)
      refine g_astore_n (L' := [(3, vR v6), (0, vR x0), (1, vI x1), (2, vI x2)]) C dX1_stale_30 rfl (by decide) rfl ?_
      refine g_aload_n C dX1_stale_31 rfl 1 rfl ?_
      obtain ⟨v7, hv7, hd⟩ := Option.bind_eq_some_iff.mp hd
      refine g_fld C gk_X1 (k := 2) (by decide) q387 (Or.inl rfl) dX1_stale_32 (gR_v hv7) ?_
      refine g_iload_n C dX1_stale_35 rfl 3 rfl ?_
      obtain ⟨v8, hv8, hd⟩ := Option.bind_eq_some_iff.mp hd
      refine g_aald C 5 (by decide) dX1_stale_36 hv8 ?_
      refine g_astore (L' := [(4, vR v8), (3, vR v6), (0, vR x0), (1, vI x1), (2, vI x2)]) C dX1_stale_37 (by decide) rfl ?_
      refine g_aload_n C dX1_stale_39 rfl 2 rfl ?_
      refine g_aload_n C dX1_stale_40 rfl 1 rfl ?_
      obtain ⟨hg, hd⟩ := gd_some hd
      obtain ⟨v10, S9, hc, hd⟩ := bn_some hd
      refine g_cV_v (n := 1) C (gk_X1).1 q1080 q1082 qs14 q95 q1083 (by decide +kernel) (by decide) (by decide) dX1_stale_41 (As := [vR v6]) (rest := []) rfl rfl (Nat.le_of_ble_eq_true rfl) hg (m_X1_above E hc) ?_
      refine g_ifnull (tgt := 51) C dX1_stale_44 (by decide) hd (fun hd => ?_) (fun hd => ?_)
      · refine g_iconst (v := 0) C dX1_stale_51 (by decide) ?_
        refine g_sub [2, 3, 4, 1, 0] rfl ?_
        exact w_X1_stale_b52 C E Q ih _ _ _ _ _ _ _ hd
      · refine g_iconst (v := 1) C dX1_stale_47 (by decide) ?_
        refine g_goto (tgt := 52) C dX1_stale_48 (by decide) ?_
        refine g_sub [2, 3, 4, 1, 0] rfl ?_
        exact w_X1_stale_b52 C E Q ih _ _ _ _ _ _ _ hd
theorem w_X1_stale_b0m {K : KT} {r : Int32} {S1 : St} (C : GC K RX1 cX1_stale 7 8 []) (E : EH (kΓ K) (kHI K) (kl K)) (Q : GQ K (some (Jvm.ClassFile.FieldType.int)) (.inl (some (vI r))) S1) : ∀ (S : St) (x0 : Option Nat), n_X1_stale S x0 = some (r, S1) → G K 7 S 0 [(0, vR x0)] [] := by
  intro S x0 hd
  unfold n_X1_stale at hd
  refine g_iconst (v := 0) C dX1_stale_0 (by decide) ?_
  refine g_istore_n (L' := [(1, vI (0 : Int32)), (0, vR x0)]) C dX1_stale_1 rfl (by decide) rfl ?_
  refine g_iconst (v := 0) C dX1_stale_2 (by decide) ?_
  refine g_istore_n (L' := [(2, vI (0 : Int32)), (1, vI (0 : Int32)), (0, vR x0)]) C dX1_stale_3 rfl (by decide) rfl ?_
  refine g_sub [2, 1, 0] rfl ?_
  exact w_X1_stale_b4 C E Q FU _ _ _ _ hd
theorem m_X1_stale {Γ : GG} {HI : St → Heap → Prop} {l : Launch} (E : EH Γ HI l) {S : St} {a0 : Option Nat} {r : Int32} {S1 : St} (h : n_X1_stale S a0 = some (r, S1)) : MS Γ HI l yX1_stale cX1_stale 7 (some (Jvm.ClassFile.FieldType.int)) 8 S [vR a0] (.inl (some (vI r))) S1 := by
  refine MS_of E.ntr E.hx (by decide +kernel) rfl (Nat.le_of_ble_eq_true rfl) fun K e1 e2 e3 e4 hnm C Q => ?_
  subst e1; subst e2; subst e3
  exact w_X1_stale_b0m C E Q S a0 h

def n_X1_segments (S : St) (x0 : Option Nat) : Option (Int32 × St) :=
  (gR S x0 0 4).bind fun v1 =>
  gd (grc S v1 8) <|
  bn (h_J2_size S v1) fun v3 S2 =>
  rtI id (Jvm.ClassFile.FieldType.int) v3 S2
theorem w_X1_segments_b0m {K : KT} {r : Int32} {S1 : St} (C : GC K RX1 cX1_segments 1 3 []) (E : EH (kΓ K) (kHI K) (kl K)) (Q : GQ K (some (Jvm.ClassFile.FieldType.int)) (.inl (some (vI r))) S1) : ∀ (S : St) (x0 : Option Nat), n_X1_segments S x0 = some (r, S1) → G K 1 S 0 [(0, vR x0)] [] := by
  intro S x0 hd
  unfold n_X1_segments at hd
  refine g_aload_n C dX1_segments_0 rfl 0 rfl ?_
  obtain ⟨v1, hv1, hd⟩ := Option.bind_eq_some_iff.mp hd
  refine g_fld C gk_X1 (k := 4) (by decide) q389 (Or.inl rfl) dX1_segments_1 (gR_v hv1) ?_
  obtain ⟨hg, hd⟩ := gd_some hd
  obtain ⟨v3, S2, hc, hd⟩ := bn_some hd
  refine g_cF_v (n := 0) C (gk_J2).1 q427 q432 q430 q98 q434 (List.mem_of_getElem? (i := 1) rfl) (by decide +kernel) (by decide) (by decide) dX1_segments_4 (As := []) (rest := []) rfl rfl (Nat.le_of_ble_eq_true rfl) hg (mh_J2_size E hc) ?_
  exact g_iret C Q hd dX1_segments_9
theorem m_X1_segments {Γ : GG} {HI : St → Heap → Prop} {l : Launch} (E : EH Γ HI l) {S : St} {a0 : Option Nat} {r : Int32} {S1 : St} (h : n_X1_segments S a0 = some (r, S1)) : MS Γ HI l yX1_segments cX1_segments 1 (some (Jvm.ClassFile.FieldType.int)) 3 S [vR a0] (.inl (some (vI r))) S1 := by
  refine MS_of E.ntr E.hx (by decide +kernel) rfl (Nat.le_of_ble_eq_true rfl) fun K e1 e2 e3 e4 hnm C Q => ?_
  subst e1; subst e2; subst e3
  exact w_X1_segments_b0m C E Q S a0 h

def n_X1_dead_b4 : Nat → St → Option Nat → Int32 → Int32 → Option (Int32 × St)
  | 0 => fun _ _ _ _ => none
  | n + 1 => fun S x0 x1 x2 =>
    (gR S x0 0 4).bind fun v1 =>
    gd (grc S v1 8) <|
    bn (h_J2_size S v1) fun v3 S2 =>
    if v3 ≤ x2 then
      rtI id (Jvm.ClassFile.FieldType.int) x1 S2
    else
      (gR S2 x0 0 4).bind fun v4 =>
      gd (grc S2 v4 8) <|
      bn (h_J2_get S2 v4 x2) fun v6 S5 =>
      gd (gcst S5 v6 7) <|
      (gI S5 v6 7 1).bind fun v7 =>
      (n_X1_dead_b4 n) S5 x0 (x1 + v7) (x2 + 1)
def n_X1_dead (S : St) (x0 : Option Nat) : Option (Int32 × St) :=
  n_X1_dead_b4 FU S x0 (0 : Int32) (0 : Int32)
theorem w_X1_dead_b4 {K : KT} {r : Int32} {S1 : St} (C : GC K RX1 cX1_dead 3 5 []) (E : EH (kΓ K) (kHI K) (kl K)) (Q : GQ K (some (Jvm.ClassFile.FieldType.int)) (.inl (some (vI r))) S1) : ∀ (n : Nat) (S : St) (x0 : Option Nat) (x1 : Int32) (x2 : Int32), n_X1_dead_b4 n S x0 x1 x2 = some (r, S1) → G K 3 S 4 [(0, vR x0), (1, vI x1), (2, vI x2)] [] := by
  intro n
  induction n with
  | zero => intro S x0 x1 x2 hd; cases hd
  | succ n ih =>
    intro S x0 x1 x2 hd
    unfold n_X1_dead_b4 at hd
    refine g_iload_n C dX1_dead_4 rfl 2 rfl ?_
    refine g_aload_n C dX1_dead_5 rfl 0 rfl ?_
    obtain ⟨v1, hv1, hd⟩ := Option.bind_eq_some_iff.mp hd
    refine g_fld C gk_X1 (k := 4) (by decide) q389 (Or.inl rfl) dX1_dead_6 (gR_v hv1) ?_
    obtain ⟨hg, hd⟩ := gd_some hd
    obtain ⟨v3, S2, hc, hd⟩ := bn_some hd
    refine g_cF_v (n := 0) C (gk_J2).1 q427 q432 q430 q98 q434 (List.mem_of_getElem? (i := 1) rfl) (by decide +kernel) (by decide) (by decide) dX1_dead_9 (As := []) (rest := [vI x2]) rfl rfl (Nat.le_of_ble_eq_true rfl) hg (mh_J2_size E hc) ?_
    refine g_icmp_ge (tgt := 42) C dX1_dead_14 (by decide) hd (fun hd => ?_) (fun hd => ?_)
    · refine g_iload_n C dX1_dead_42 rfl 1 rfl ?_
      exact g_iret C Q hd dX1_dead_43
    · refine g_iload_n C dX1_dead_17 rfl 1 rfl ?_
      refine g_aload_n C dX1_dead_18 rfl 0 rfl ?_
      obtain ⟨v4, hv4, hd⟩ := Option.bind_eq_some_iff.mp hd
      refine g_fld C gk_X1 (k := 4) (by decide) q389 (Or.inl rfl) dX1_dead_19 (gR_v hv4) ?_
      refine g_iload_n C dX1_dead_22 rfl 2 rfl ?_
      obtain ⟨hg, hd⟩ := gd_some hd
      obtain ⟨v6, S5, hc, hd⟩ := bn_some hd
      refine g_cF_v (n := 1) C (gk_J2).1 q441 q446 q444 q98 q448 (List.mem_of_getElem? (i := 2) rfl) (by decide +kernel) (by decide) (by decide) dX1_dead_23 (As := [vI x2]) (rest := [vI x1]) rfl rfl (Nat.le_of_ble_eq_true rfl) hg (mh_J2_get E hc) ?_
      refine g_cast C (gk_X9).1 q1096 dX1_dead_28 hd (fun hd => ?_)
      obtain ⟨v7, hv7, hd⟩ := Option.bind_eq_some_iff.mp hd
      refine g_fldN C gk_X9 (k := 1) (by decide) q1825 rfl dX1_dead_31 (gI_v hv7) ?_
      refine g_iadd C dX1_dead_34 ?_
      refine g_istore_n (L' := [(1, vI (x1 + v7)), (0, vR x0), (2, vI x2)]) C dX1_dead_35 rfl (by decide) rfl ?_
      refine g_iinc (v := x2 + 1) (L' := [(2, vI (x2 + 1)), (1, vI (x1 + v7)), (0, vR x0)]) C dX1_dead_36 2 rfl rfl (by decide) rfl ?_
      refine g_goto (tgt := 4) C dX1_dead_39 (by decide) ?_
      refine g_sub [2, 1, 0] rfl ?_
      exact ih _ _ _ _ hd
theorem w_X1_dead_b0m {K : KT} {r : Int32} {S1 : St} (C : GC K RX1 cX1_dead 3 5 []) (E : EH (kΓ K) (kHI K) (kl K)) (Q : GQ K (some (Jvm.ClassFile.FieldType.int)) (.inl (some (vI r))) S1) : ∀ (S : St) (x0 : Option Nat), n_X1_dead S x0 = some (r, S1) → G K 3 S 0 [(0, vR x0)] [] := by
  intro S x0 hd
  unfold n_X1_dead at hd
  refine g_iconst (v := 0) C dX1_dead_0 (by decide) ?_
  refine g_istore_n (L' := [(1, vI (0 : Int32)), (0, vR x0)]) C dX1_dead_1 rfl (by decide) rfl ?_
  refine g_iconst (v := 0) C dX1_dead_2 (by decide) ?_
  refine g_istore_n (L' := [(2, vI (0 : Int32)), (1, vI (0 : Int32)), (0, vR x0)]) C dX1_dead_3 rfl (by decide) rfl ?_
  refine g_sub [2, 1, 0] rfl ?_
  exact w_X1_dead_b4 C E Q FU _ _ _ _ hd
theorem m_X1_dead {Γ : GG} {HI : St → Heap → Prop} {l : Launch} (E : EH Γ HI l) {S : St} {a0 : Option Nat} {r : Int32} {S1 : St} (h : n_X1_dead S a0 = some (r, S1)) : MS Γ HI l yX1_dead cX1_dead 3 (some (Jvm.ClassFile.FieldType.int)) 5 S [vR a0] (.inl (some (vI r))) S1 := by
  refine MS_of E.ntr E.hx (by decide +kernel) rfl (Nat.le_of_ble_eq_true rfl) fun K e1 e2 e3 e4 hnm C Q => ?_
  subst e1; subst e2; subst e3
  exact w_X1_dead_b0m C E Q S a0 h

def n_X1_init (S : St) (x0 : Option Nat) : Option (Unit × St) :=
  gd (x0).isSome <|
  nwB S (cO 8 [vI 0, vR none, vI 0]) 3 fun q1 S2 =>
  gd (q1).isSome <|
  bn (h_J2_init S2 q1) fun _ S3 =>
  (pR S3 x0 0 0 q1).bind fun S5 =>
  nwB S5 (cO 9 [vI 0, vI 0, vR none, vR none]) 4 fun q6 S7 =>
  gd (q6).isSome <|
  bn (h_J4_init S7 q6) fun _ S8 =>
  (pR S8 x0 0 1 q6).bind fun S10 =>
  naB S10 5 (60 : Int32) fun q11 S12 =>
  (pR S12 x0 0 2 q11).bind fun S13 =>
  nwB S13 (cO 9 [vI 0, vI 0, vR none, vR none]) 4 fun q14 S15 =>
  gd (q14).isSome <|
  bn (h_J4_init S15 q14) fun _ S16 =>
  (pR S16 x0 0 3 q14).bind fun S18 =>
  nwB S18 (cO 8 [vI 0, vR none, vI 0]) 3 fun q19 S20 =>
  gd (q19).isSome <|
  bn (h_J2_init S20 q19) fun _ S21 =>
  (pR S21 x0 0 4 q19).bind fun S23 =>
  nwB S23 (cO 10 [vR none, vI 0, vI 0]) 3 fun q24 S25 =>
  gd (q24).isSome <|
  bn (h_J5_init S25 q24 (60 : Int32)) fun _ S26 =>
  (pR S26 x0 0 5 q24).bind fun S28 =>
  (pI .int S28 x0 0 10 (2 : Int32)).bind fun S29 =>
  (pI .int S29 x0 0 11 (12 : Int32)).bind fun S30 =>
  (gR S30 x0 0 0).bind fun v31 =>
  nwB S30 (cO 1 [vI 0, vI 0, vR none, vI 0, vI 0, vR none, vI 0, vI 0, vI 0]) 9 fun q32 S33 =>
  gd (q32).isSome <|
  bn (n_X2_init S33 q32 (0 : Int32) (1 : Int32)) fun _ S34 =>
  gd (grc S34 v31 8) <|
  bn (h_J2_add S34 v31 q32) fun v37 S36 =>
  some ((), S36)
theorem w_X1_init_b0m {K : KT} {r : Unit} {S1 : St} (C : GC K RX1 cX1_init 1 9 []) (E : EH (kΓ K) (kHI K) (kl K)) (Q : GQ K none (.inl none) S1) (hnm : kLv K → (kme K).name = "<init>") : ∀ (S : St) (x0 : Option Nat), n_X1_init S x0 = some (r, S1) → G K 1 S 0 [(0, vR x0)] [] := by
  intro S x0 hd
  unfold n_X1_init at hd
  refine g_aload_n C dX1_init_0 rfl 0 rfl ?_
  obtain ⟨hg, hd⟩ := gd_some hd
  refine g_objInit C q148 q149 q150 (by decide) dX1_init_1 hg (Nat.le_of_ble_eq_true rfl) ?_
  refine g_aload_n C dX1_init_4 rfl 0 rfl ?_
  refine g_new C gk_J2 (fun j hj => gdf_J2 j hj) q151 q152 q98 dX1_init_5 hd (fun q1 S2 hd => ?_)
  refine g_dup C dX1_init_8 rfl ?_
  obtain ⟨hg, hd⟩ := gd_some hd
  obtain ⟨_, S3, hc, hd⟩ := bn_some hd
  refine g_cI_n (n := 0) C q153 q154 q98 q155 rfl (by decide +kernel) (by decide) (by decide) dX1_init_9 (As := []) (rest := [vR q1, vR x0]) rfl rfl (Nat.le_of_ble_eq_true rfl) hg (mh_J2_init E hc) ?_
  obtain ⟨S5, hS5, hd⟩ := Option.bind_eq_some_iff.mp hd
  refine g_putF C gk_X1 (k := 0) (by decide) q385 rfl rfl hnm rfl dX1_init_12 (fit_ref _ (Or.inl ⟨_, rfl⟩)).1 (fit_ref _ (Or.inl ⟨_, rfl⟩)).2 hS5 ?_
  refine g_aload_n C dX1_init_15 rfl 0 rfl ?_
  refine g_new C gk_J4 (fun j hj => gdf_J4 j hj) q184 q185 q100 dX1_init_16 hd (fun q6 S7 hd => ?_)
  refine g_dup C dX1_init_19 rfl ?_
  obtain ⟨hg, hd⟩ := gd_some hd
  obtain ⟨_, S8, hc, hd⟩ := bn_some hd
  refine g_cI_n (n := 0) C q186 q187 q100 q188 rfl (by decide +kernel) (by decide) (by decide) dX1_init_20 (As := []) (rest := [vR q6, vR x0]) rfl rfl (Nat.le_of_ble_eq_true rfl) hg (mh_J4_init E hc) ?_
  obtain ⟨S10, hS10, hd⟩ := Option.bind_eq_some_iff.mp hd
  refine g_putF C gk_X1 (k := 1) (by decide) q386 rfl rfl hnm rfl dX1_init_23 (fit_ref _ (Or.inl ⟨_, rfl⟩)).1 (fit_ref _ (Or.inl ⟨_, rfl⟩)).2 hS10 ?_
  refine g_aload_n C dX1_init_26 rfl 0 rfl ?_
  refine g_bipush (v := 60) C dX1_init_27 (by decide) ?_
  refine g_anew C 5 (Or.inr ⟨rfl, rfl⟩) q205 dX1_init_29 hd (fun q11 S12 hd => ?_)
  obtain ⟨S13, hS13, hd⟩ := Option.bind_eq_some_iff.mp hd
  refine g_putF C gk_X1 (k := 2) (by decide) q387 rfl rfl hnm rfl dX1_init_32 (fit_ref _ (Or.inr ⟨_, rfl⟩)).1 (fit_ref _ (Or.inr ⟨_, rfl⟩)).2 hS13 ?_
  refine g_aload_n C dX1_init_35 rfl 0 rfl ?_
  refine g_new C gk_J4 (fun j hj => gdf_J4 j hj) q184 q185 q100 dX1_init_36 hd (fun q14 S15 hd => ?_)
  refine g_dup C dX1_init_39 rfl ?_
  obtain ⟨hg, hd⟩ := gd_some hd
  obtain ⟨_, S16, hc, hd⟩ := bn_some hd
  refine g_cI_n (n := 0) C q186 q187 q100 q188 rfl (by decide +kernel) (by decide) (by decide) dX1_init_40 (As := []) (rest := [vR q14, vR x0]) rfl rfl (Nat.le_of_ble_eq_true rfl) hg (mh_J4_init E hc) ?_
  obtain ⟨S18, hS18, hd⟩ := Option.bind_eq_some_iff.mp hd
  refine g_putF C gk_X1 (k := 3) (by decide) q388 rfl rfl hnm rfl dX1_init_43 (fit_ref _ (Or.inl ⟨_, rfl⟩)).1 (fit_ref _ (Or.inl ⟨_, rfl⟩)).2 hS18 ?_
  refine g_aload_n C dX1_init_46 rfl 0 rfl ?_
  refine g_new C gk_J2 (fun j hj => gdf_J2 j hj) q151 q152 q98 dX1_init_47 hd (fun q19 S20 hd => ?_)
  refine g_dup C dX1_init_50 rfl ?_
  obtain ⟨hg, hd⟩ := gd_some hd
  obtain ⟨_, S21, hc, hd⟩ := bn_some hd
  refine g_cI_n (n := 0) C q153 q154 q98 q155 rfl (by decide +kernel) (by decide) (by decide) dX1_init_51 (As := []) (rest := [vR q19, vR x0]) rfl rfl (Nat.le_of_ble_eq_true rfl) hg (mh_J2_init E hc) ?_
  obtain ⟨S23, hS23, hd⟩ := Option.bind_eq_some_iff.mp hd
  refine g_putF C gk_X1 (k := 4) (by decide) q389 rfl rfl hnm rfl dX1_init_54 (fit_ref _ (Or.inl ⟨_, rfl⟩)).1 (fit_ref _ (Or.inl ⟨_, rfl⟩)).2 hS23 ?_
  refine g_aload_n C dX1_init_57 rfl 0 rfl ?_
  refine g_new C gk_J5 (fun j hj => gdf_J5 j hj) q207 q208 q101 dX1_init_58 hd (fun q24 S25 hd => ?_)
  refine g_dup C dX1_init_61 rfl ?_
  refine g_bipush (v := 60) C dX1_init_62 (by decide) ?_
  obtain ⟨hg, hd⟩ := gd_some hd
  obtain ⟨_, S26, hc, hd⟩ := bn_some hd
  refine g_cI_n (n := 1) C q209 q210 q101 q211 rfl (by decide +kernel) (by decide) (by decide) dX1_init_64 (As := [vI (60 : Int32)]) (rest := [vR q24, vR x0]) rfl rfl (Nat.le_of_ble_eq_true rfl) hg (mh_J5_init E hc) ?_
  obtain ⟨S28, hS28, hd⟩ := Option.bind_eq_some_iff.mp hd
  refine g_putF C gk_X1 (k := 5) (by decide) q390 rfl rfl hnm rfl dX1_init_67 (fit_ref _ (Or.inl ⟨_, rfl⟩)).1 (fit_ref _ (Or.inl ⟨_, rfl⟩)).2 hS28 ?_
  refine g_aload_n C dX1_init_70 rfl 0 rfl ?_
  refine g_iconst (v := 2) C dX1_init_71 (by decide) ?_
  obtain ⟨S29, hS29, hd⟩ := Option.bind_eq_some_iff.mp hd
  refine g_put C gk_X1 (k := 10) (by decide) q395 (Or.inl rfl) rfl dX1_init_72 (gfit_ok (pI_v hS29).1).1 (gfit_ok (pI_v hS29).1).2 (pI_v hS29).2 ?_
  refine g_aload_n C dX1_init_75 rfl 0 rfl ?_
  refine g_bipush (v := 12) C dX1_init_76 (by decide) ?_
  obtain ⟨S30, hS30, hd⟩ := Option.bind_eq_some_iff.mp hd
  refine g_put C gk_X1 (k := 11) (by decide) q396 (Or.inl rfl) rfl dX1_init_78 (gfit_ok (pI_v hS30).1).1 (gfit_ok (pI_v hS30).1).2 (pI_v hS30).2 ?_
  refine g_aload_n C dX1_init_81 rfl 0 rfl ?_
  obtain ⟨v31, hv31, hd⟩ := Option.bind_eq_some_iff.mp hd
  refine g_fld C gk_X1 (k := 0) (by decide) q385 (Or.inl rfl) dX1_init_82 (gR_v hv31) ?_
  refine g_new C gk_X2 (fun j hj => gdf_X2 j hj) q231 q232 q102 dX1_init_85 hd (fun q32 S33 hd => ?_)
  refine g_dup C dX1_init_88 rfl ?_
  refine g_iconst (v := 0) C dX1_init_89 (by decide) ?_
  refine g_iconst (v := 1) C dX1_init_90 (by decide) ?_
  obtain ⟨hg, hd⟩ := gd_some hd
  obtain ⟨_, S34, hc, hd⟩ := bn_some hd
  refine g_cI_n (n := 2) C q233 q234 q102 q235 rfl (by decide +kernel) (by decide) (by decide) dX1_init_91 (As := [vI (0 : Int32), vI (1 : Int32)]) (rest := [vR q32, vR v31]) rfl rfl (Nat.le_of_ble_eq_true rfl) hg (m_X2_init E hc) ?_
  obtain ⟨hg, hd⟩ := gd_some hd
  obtain ⟨v37, S36, hc, hd⟩ := bn_some hd
  refine g_cF_v (n := 1) C (gk_J2).1 q274 q280 q278 q98 q282 (List.mem_of_getElem? (i := 0) rfl) (by decide +kernel) (by decide) (by decide) dX1_init_94 (As := [vR q32]) (rest := []) rfl rfl (Nat.le_of_ble_eq_true rfl) hg (mh_J2_add E hc) ?_
  refine g_pop C dX1_init_99 rfl ?_
  exact g_vret C Q hd dX1_init_100
theorem m_X1_init {Γ : GG} {HI : St → Heap → Prop} {l : Launch} (E : EH Γ HI l) {S : St} {a0 : Option Nat} {r : Unit} {S1 : St} (h : n_X1_init S a0 = some (r, S1)) : MS Γ HI l yX1_init cX1_init 1 none 9 S [vR a0] (.inl none) S1 := by
  refine MS_of E.ntr E.hx (by decide +kernel) rfl (Nat.le_of_ble_eq_true rfl) fun K e1 e2 e3 e4 hnm C Q => ?_
  subst e1; subst e2; subst e3
  exact w_X1_init_b0m C E Q (by exact hnm) S a0 h

