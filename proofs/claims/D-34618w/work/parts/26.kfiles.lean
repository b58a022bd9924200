/-! the keeper: make, write, empty -/
def n_X1_possible (S : St) (x0 : Int32) : Option ((Unit ⊕ String) × St) :=
  if x0 = 0 then
    some (Sum.inr "java/lang/IllegalStateException", (ssk S 6))
  else
    some (Sum.inl (), S)
theorem w_X1_possible_b0m {K : KT} {r : (Unit ⊕ String)} {S1 : St} (C : GC K RX1 cX1_possible 1 8 []) (E : EH (kΓ K) (kHI K) (kl K)) (Q : GQ K none (resV r) S1) : ∀ (S : St) (x0 : Int32), n_X1_possible S x0 = some (r, S1) → G K 1 S 0 [(0, vI x0)] [] := by
  intro S x0 hd
  unfold n_X1_possible at hd
  refine g_iload_n C dX1_possible_0 rfl 0 rfl ?_
  refine g_if_ne (tgt := 12) C dX1_possible_1 (by decide) hd (fun hd => ?_) (fun hd => ?_)
  · exact g_vretT C Q hd dX1_possible_12
  · cases hd
    exact g_throw C ["java/lang/RuntimeException", "java/lang/Exception"] (by decide) (by decide) q1165 q124 thw_X1_9.1 thw_X1_9.2 (by decide) (by decide) (Nat.le_of_ble_eq_true rfl) Q rfl dX1_possible_4 dX1_possible_7 dX1_possible_8 dX1_possible_11
theorem m_X1_possible {Γ : GG} {HI : St → Heap → Prop} {l : Launch} (E : EH Γ HI l) {S : St} {a0 : Int32} {r : (Unit ⊕ String)} {S1 : St} (h : n_X1_possible S a0 = some (r, S1)) : MS Γ HI l yX1_possible cX1_possible 1 none 8 S [vI a0] (resV r) S1 := by
  refine MS_of E.ntr E.hx (by decide +kernel) rfl (Nat.le_of_ble_eq_true rfl) fun K e1 e2 e3 e4 hnm C Q => ?_
  subst e1; subst e2; subst e3
  exact w_X1_possible_b0m C E Q S a0 h

def n_X2_init (S : St) (x0 : Option Nat) (x1 : Int32) (x2 : Int32) : Option (Unit × St) :=
  gd (x0).isSome <|
  (pI .int S x0 1 4 (1 : Int32)).bind fun S1 =>
  nwB S1 (cO 8 [vI 0, vR none, vI 0]) 3 fun q2 S3 =>
  gd (q2).isSome <|
  bn (h_J2_init S3 q2) fun _ S4 =>
  (pR S4 x0 1 5 q2).bind fun S6 =>
  (pI .int S6 x0 1 7 (15 : Int32)).bind fun S7 =>
  (pI .int S7 x0 1 0 x1).bind fun S8 =>
  (pI .boolean S8 x0 1 1 x2).bind fun S9 =>
  some ((), S9)
theorem w_X2_init_b0m {K : KT} {r : Unit} {S1 : St} (C : GC K RX2 cX2_init 3 5 []) (E : EH (kΓ K) (kHI K) (kl K)) (Q : GQ K none (.inl none) S1) (hnm : kLv K → (kme K).name = "<init>") : ∀ (S : St) (x0 : Option Nat) (x1 : Int32) (x2 : Int32), n_X2_init S x0 x1 x2 = some (r, S1) → G K 3 S 0 [(0, vR x0), (1, vI x1), (2, vI x2)] [] := by
  intro S x0 x1 x2 hd
  unfold n_X2_init at hd
  refine g_aload_n C dX2_init_0 rfl 0 rfl ?_
  obtain ⟨hg, hd⟩ := gd_some hd
  refine g_objInit C q236 q149 q150 (by decide) dX2_init_1 hg (Nat.le_of_ble_eq_true rfl) ?_
  refine g_aload_n C dX2_init_4 rfl 0 rfl ?_
  refine g_iconst (v := 1) C dX2_init_5 (by decide) ?_
  obtain ⟨S1, hS1, hd⟩ := Option.bind_eq_some_iff.mp hd
  refine g_put C gk_X2 (k := 4) (by decide) q246 (Or.inl rfl) rfl dX2_init_6 (gfit_ok (pI_v hS1).1).1 (gfit_ok (pI_v hS1).1).2 (pI_v hS1).2 ?_
  refine g_aload_n C dX2_init_9 rfl 0 rfl ?_
  refine g_new C gk_J2 (fun j hj => gdf_J2 j hj) q237 q152 q98 dX2_init_10 hd (fun q2 S3 hd => ?_)
  refine g_dup C dX2_init_13 rfl ?_
  obtain ⟨hg, hd⟩ := gd_some hd
  obtain ⟨_, S4, hc, hd⟩ := bn_some hd
  refine g_cI_n (n := 0) C q238 q154 q98 q155 rfl (by decide +kernel) (by decide) (by decide) dX2_init_14 (As := []) (rest := [vR q2, vR x0]) rfl rfl (Nat.le_of_ble_eq_true rfl) hg (mh_J2_init E hc) ?_
  obtain ⟨S6, hS6, hd⟩ := Option.bind_eq_some_iff.mp hd
  refine g_putF C gk_X2 (k := 5) (by decide) q248 rfl rfl hnm rfl dX2_init_17 (fit_ref _ (Or.inl ⟨_, rfl⟩)).1 (fit_ref _ (Or.inl ⟨_, rfl⟩)).2 hS6 ?_
  refine g_aload_n C dX2_init_20 rfl 0 rfl ?_
  refine g_bipush (v := 15) C dX2_init_21 (by decide) ?_
  obtain ⟨S7, hS7, hd⟩ := Option.bind_eq_some_iff.mp hd
  refine g_put C gk_X2 (k := 7) (by decide) q251 (Or.inl rfl) rfl dX2_init_23 (gfit_ok (pI_v hS7).1).1 (gfit_ok (pI_v hS7).1).2 (pI_v hS7).2 ?_
  refine g_aload_n C dX2_init_26 rfl 0 rfl ?_
  refine g_iload_n C dX2_init_27 rfl 1 rfl ?_
  obtain ⟨S8, hS8, hd⟩ := Option.bind_eq_some_iff.mp hd
  refine g_putF C gk_X2 (k := 0) (by decide) q239 rfl rfl hnm rfl dX2_init_28 (gfit_ok (pI_v hS8).1).1 (gfit_ok (pI_v hS8).1).2 (pI_v hS8).2 ?_
  refine g_aload_n C dX2_init_31 rfl 0 rfl ?_
  refine g_iload_n C dX2_init_32 rfl 2 rfl ?_
  obtain ⟨S9, hS9, hd⟩ := Option.bind_eq_some_iff.mp hd
  refine g_putF C gk_X2 (k := 1) (by decide) q241 rfl rfl hnm rfl dX2_init_33 (gfit_ok (pI_v hS9).1).1 (gfit_ok (pI_v hS9).1).2 (pI_v hS9).2 ?_
  exact g_vret C Q hd dX2_init_36
theorem m_X2_init {Γ : GG} {HI : St → Heap → Prop} {l : Launch} (E : EH Γ HI l) {S : St} {a0 : Option Nat} {a1 : Int32} {a2 : Int32} {r : Unit} {S1 : St} (h : n_X2_init S a0 a1 a2 = some (r, S1)) : MS Γ HI l yX2_init cX2_init 3 none 5 S [vR a0, vI a1, vI a2] (.inl none) S1 := by
  refine MS_of E.ntr E.hx (by decide +kernel) rfl (Nat.le_of_ble_eq_true rfl) fun K e1 e2 e3 e4 hnm C Q => ?_
  subst e1; subst e2; subst e3
  exact w_X2_init_b0m C E Q (by exact hnm) S a0 a1 a2 h

def n_X2_isBelow_b25 (k7 : St → Option Nat → Int32 → Option Nat → Option (Int32 × St)) (S : St) (x1 : Option Nat) (x3 : Option Nat) (y0 : Int32) : Option (Int32 × St) :=
  (gR S x3 1 2).bind fun v1 =>
  k7 S x1 y0 v1
def n_X2_isBelow_b7 : Nat → St → Option Nat → Int32 → Option Nat → Option (Int32 × St)
  | 0 => fun _ _ _ _ => none
  | n + 1 => fun S x1 x2 x3 =>
    if x3 = none then
      rtI id (Jvm.ClassFile.FieldType.boolean) x2 S
    else
      if x2 = 0 then
        if x3 = x1 then
          n_X2_isBelow_b25 (n_X2_isBelow_b7 n) S x1 x3 (1 : Int32)
        else
          n_X2_isBelow_b25 (n_X2_isBelow_b7 n) S x1 x3 (0 : Int32)
      else
        rtI id (Jvm.ClassFile.FieldType.boolean) x2 S
def n_X2_isBelow (S : St) (x0 : Option Nat) (x1 : Option Nat) : Option (Int32 × St) :=
  (gR S x0 1 2).bind fun v1 =>
  n_X2_isBelow_b7 FU S x1 (0 : Int32) v1
theorem w_X2_isBelow_b25 {K : KT} {r : Int32} {S1 : St} (C : GC K RX2 cX2_isBelow 4 2 []) (E : EH (kΓ K) (kHI K) (kl K)) (Q : GQ K (some (Jvm.ClassFile.FieldType.boolean)) (.inl (some (vI r))) S1) {k7 : St → Option Nat → Int32 → Option Nat → Option (Int32 × St)} (h7 : ∀ (S : St) (x1 : Option Nat) (x2 : Int32) (x3 : Option Nat), k7 S x1 x2 x3 = some (r, S1) → G K 4 S 7 [(1, vR x1), (2, vI x2), (3, vR x3)] []) : ∀ (S : St) (x1 : Option Nat) (x3 : Option Nat) (y0 : Int32), n_X2_isBelow_b25 k7 S x1 x3 y0 = some (r, S1) → G K 4 S 25 [(1, vR x1), (3, vR x3)] [vI y0] := by
  intro S x1 x3 y0 hd
  unfold n_X2_isBelow_b25 at hd
  refine g_istore_n (L' := [(2, vI y0), (1, vR x1), (3, vR x3)]) C dX2_isBelow_25 rfl (by decide) rfl ?_
  refine g_aload_n C dX2_isBelow_26 rfl 2 rfl ?_
  obtain ⟨v1, hv1, hd⟩ := Option.bind_eq_some_iff.mp hd
  refine g_fld C gk_X2 (k := 2) (by decide) q243 (Or.inl rfl) dX2_isBelow_27 (gR_v hv1) ?_
  refine g_astore_n (L' := [(3, vR v1), (2, vI y0), (1, vR x1)]) C dX2_isBelow_30 rfl (by decide) rfl ?_
  refine g_goto (tgt := 7) C dX2_isBelow_31 (by decide) ?_
  refine g_sub [2, 1, 0] rfl ?_
  exact h7 _ _ _ _ hd
theorem w_X2_isBelow_b7 {K : KT} {r : Int32} {S1 : St} (C : GC K RX2 cX2_isBelow 4 2 []) (E : EH (kΓ K) (kHI K) (kl K)) (Q : GQ K (some (Jvm.ClassFile.FieldType.boolean)) (.inl (some (vI r))) S1) : ∀ (n : Nat) (S : St) (x1 : Option Nat) (x2 : Int32) (x3 : Option Nat), n_X2_isBelow_b7 n S x1 x2 x3 = some (r, S1) → G K 4 S 7 [(1, vR x1), (2, vI x2), (3, vR x3)] [] := by
  intro n
  induction n with
  | zero => intro S x1 x2 x3 hd; cases hd
  | succ n ih =>
    intro S x1 x2 x3 hd
    unfold n_X2_isBelow_b7 at hd
    refine g_aload_n C dX2_isBelow_7 rfl 2 rfl ?_
    refine g_ifnull (tgt := 34) C dX2_isBelow_8 (by decide) hd (fun hd => ?_) (fun hd => ?_)
    · refine g_iload_n C dX2_isBelow_34 rfl 1 rfl ?_
      exact g_iret C Q hd dX2_isBelow_35
    · refine g_iload_n C dX2_isBelow_11 rfl 1 rfl ?_
      refine g_if_ne (tgt := 34) C dX2_isBelow_12 (by decide) hd (fun hd => ?_) (fun hd => ?_)
      · refine g_iload_n C dX2_isBelow_34 rfl 1 rfl ?_
        exact g_iret C Q hd dX2_isBelow_35
      · refine g_aload_n C dX2_isBelow_15 rfl 2 rfl ?_
        refine g_aload_n C dX2_isBelow_16 rfl 0 rfl ?_
        refine g_acmp_ne (tgt := 24) C dX2_isBelow_17 (by decide) hd (fun hd => ?_) (fun hd => ?_)
        · refine g_iconst (v := 0) C dX2_isBelow_24 (by decide) ?_
          refine g_sub [0, 2] rfl ?_
          exact w_X2_isBelow_b25 C E Q ih _ _ _ _ hd
        · refine g_iconst (v := 1) C dX2_isBelow_20 (by decide) ?_
          refine g_goto (tgt := 25) C dX2_isBelow_21 (by decide) ?_
          refine g_sub [0, 2] rfl ?_
          exact w_X2_isBelow_b25 C E Q ih _ _ _ _ hd
theorem w_X2_isBelow_b0m {K : KT} {r : Int32} {S1 : St} (C : GC K RX2 cX2_isBelow 4 2 []) (E : EH (kΓ K) (kHI K) (kl K)) (Q : GQ K (some (Jvm.ClassFile.FieldType.boolean)) (.inl (some (vI r))) S1) : ∀ (S : St) (x0 : Option Nat) (x1 : Option Nat), n_X2_isBelow S x0 x1 = some (r, S1) → G K 4 S 0 [(0, vR x0), (1, vR x1)] [] := by
  intro S x0 x1 hd
  unfold n_X2_isBelow at hd
  refine g_iconst (v := 0) C dX2_isBelow_0 (by decide) ?_
  refine g_istore_n (L' := [(2, vI (0 : Int32)), (0, vR x0), (1, vR x1)]) C dX2_isBelow_1 rfl (by decide) rfl ?_
  refine g_aload_n C dX2_isBelow_2 rfl 1 rfl ?_
  obtain ⟨v1, hv1, hd⟩ := Option.bind_eq_some_iff.mp hd
  refine g_fld C gk_X2 (k := 2) (by decide) q243 (Or.inl rfl) dX2_isBelow_3 (gR_v hv1) ?_
  refine g_astore_n (L' := [(3, vR v1), (2, vI (0 : Int32)), (0, vR x0), (1, vR x1)]) C dX2_isBelow_6 rfl (by decide) rfl ?_
  refine g_sub [3, 1, 0] rfl ?_
  exact w_X2_isBelow_b7 C E Q FU _ _ _ _ hd
theorem m_X2_isBelow {Γ : GG} {HI : St → Heap → Prop} {l : Launch} (E : EH Γ HI l) {S : St} {a0 : Option Nat} {a1 : Option Nat} {r : Int32} {S1 : St} (h : n_X2_isBelow S a0 a1 = some (r, S1)) : MS Γ HI l yX2_isBelow cX2_isBelow 4 (some (Jvm.ClassFile.FieldType.boolean)) 2 S [vR a0, vR a1] (.inl (some (vI r))) S1 := by
  refine MS_of E.ntr E.hx (by decide +kernel) rfl (Nat.le_of_ble_eq_true rfl) fun K e1 e2 e3 e4 hnm C Q => ?_
  subst e1; subst e2; subst e3
  exact w_X2_isBelow_b0m C E Q S a0 a1 h

def n_X1_above_b49 (k10 : St → Option Nat → Option Nat → Option (Option Nat × St)) (S : St) (x1 : Option Nat) (x2 : Option Nat) : Option (Option Nat × St) :=
  k10 S x1 x2
def n_X1_above_b10 : Nat → St → Option Nat → Option Nat → Option (Option Nat × St)
  | 0 => fun _ _ _ => none
  | n + 1 => fun S x1 x2 =>
    gd (grc S x2 13) <|
    bn (h_J29_hasNext S x2) fun v2 S1 =>
    if v2 = 0 then
      some (none, S1)
    else
      gd (grc S1 x2 13) <|
      bn (h_J29_next S1 x2) fun v4 S3 =>
      gd (gcst S3 v4 4) <|
      (gI S3 x1 1 8).bind fun v5 =>
      if v5 = 0 then
        (gR S3 v4 4 0).bind fun v6 =>
        gd (grc S3 x1 1) <|
        bn (n_X2_isBelow S3 x1 v6) fun v8 S7 =>
        if v8 = 0 then
          n_X1_above_b49 (n_X1_above_b10 n) S7 x1 x2
        else
          some (v4, S7)
      else
        n_X1_above_b49 (n_X1_above_b10 n) S3 x1 x2
def n_X1_above (S : St) (x0 : Option Nat) (x1 : Option Nat) : Option (Option Nat × St) :=
  (gR S x0 0 1).bind fun v1 =>
  gd (grc S v1 9) <|
  bn (h_J3_iterator S v1) fun v3 S2 =>
  n_X1_above_b10 FU S2 x1 v3
theorem w_X1_above_b49 {K : KT} {r : Option Nat} {S1 : St} (C : GC K RX1 cX1_above 4 7 []) (E : EH (kΓ K) (kHI K) (kl K)) (Q : GQ K (some (Jvm.ClassFile.FieldType.object "SearchKeeper$Root")) (.inl (some (vR r))) S1) {k10 : St → Option Nat → Option Nat → Option (Option Nat × St)} (h10 : ∀ (S : St) (x1 : Option Nat) (x2 : Option Nat), k10 S x1 x2 = some (r, S1) → G K 4 S 10 [(1, vR x1), (2, vR x2)] []) : ∀ (S : St) (x1 : Option Nat) (x2 : Option Nat), n_X1_above_b49 k10 S x1 x2 = some (r, S1) → G K 4 S 49 [(1, vR x1), (2, vR x2)] [] := by
  intro S x1 x2 hd
  unfold n_X1_above_b49 at hd
  refine g_goto (tgt := 10) C dX1_above_49 (by decide) ?_
  refine g_sub [0, 1] rfl ?_
  exact h10 _ _ _ hd
theorem w_X1_above_b10 {K : KT} {r : Option Nat} {S1 : St} (C : GC K RX1 cX1_above 4 7 []) (E : EH (kΓ K) (kHI K) (kl K)) (Q : GQ K (some (Jvm.ClassFile.FieldType.object "SearchKeeper$Root")) (.inl (some (vR r))) S1) : ∀ (n : Nat) (S : St) (x1 : Option Nat) (x2 : Option Nat), n_X1_above_b10 n S x1 x2 = some (r, S1) → G K 4 S 10 [(1, vR x1), (2, vR x2)] [] := by
  intro n
  induction n with
  | zero => intro S x1 x2 hd; cases hd
  | succ n ih =>
    intro S x1 x2 hd
    unfold n_X1_above_b10 at hd
    refine g_aload_n C dX1_above_10 rfl 1 rfl ?_
    obtain ⟨hg, hd⟩ := gd_some hd
    obtain ⟨v2, S1, hc, hd⟩ := bn_some hd
    refine g_cF_v (n := 0) C (gk_J29).1 q925 q951 q949 q129 q953 (List.mem_of_getElem? (i := 12) rfl) (by decide +kernel) (by decide) (by decide) dX1_above_11 (As := []) (rest := []) rfl rfl (Nat.le_of_ble_eq_true rfl) hg (mh_J29_hasNext E hc) ?_
    refine g_if_eq (tgt := 52) C dX1_above_16 (by decide) hd (fun hd => ?_) (fun hd => ?_)
    · refine g_null C dX1_above_52 ?_
      exact g_aret C Q (Or.inl ⟨_, rfl⟩) hd dX1_above_53
    · refine g_aload_n C dX1_above_19 rfl 1 rfl ?_
      obtain ⟨hg, hd⟩ := gd_some hd
      obtain ⟨v4, S3, hc, hd⟩ := bn_some hd
      refine g_cF_v (n := 0) C (gk_J29).1 q955 q1047 q1045 q129 q1049 (List.mem_of_getElem? (i := 13) rfl) (by decide +kernel) (by decide) (by decide) dX1_above_20 (As := []) (rest := []) rfl rfl (Nat.le_of_ble_eq_true rfl) hg (mh_J29_next E hc) ?_
      refine g_cast C (gk_X6).1 q1055 dX1_above_25 hd (fun hd => ?_)
      refine g_astore_n (L' := [(3, vR v4), (1, vR x1), (2, vR x2)]) C dX1_above_28 rfl (by decide) rfl ?_
      refine g_aload_n C dX1_above_29 rfl 1 rfl ?_
      obtain ⟨v5, hv5, hd⟩ := Option.bind_eq_some_iff.mp hd
      refine g_fldN C gk_X2 (k := 8) (by decide) q253 rfl dX1_above_30 (gI_v hv5) ?_
      refine g_if_ne (tgt := 49) C dX1_above_33 (by decide) hd (fun hd => ?_) (fun hd => ?_)
      · refine g_sub [1, 2] rfl ?_
        exact w_X1_above_b49 C E Q ih _ _ _ hd
      · refine g_aload_n C dX1_above_36 rfl 1 rfl ?_
        refine g_aload_n C dX1_above_37 rfl 0 rfl ?_
        obtain ⟨v6, hv6, hd⟩ := Option.bind_eq_some_iff.mp hd
        refine g_fldN C gk_X6 (k := 0) (by decide) q1437 rfl dX1_above_38 (gR_v hv6) ?_
        obtain ⟨hg, hd⟩ := gd_some hd
        obtain ⟨v8, S7, hc, hd⟩ := bn_some hd
        refine g_cV_v (n := 1) C (gk_X2).1 q1084 q1085 q1086 q102 q1087 (by decide +kernel) (by decide) (by decide) dX1_above_41 (As := [vR v6]) (rest := []) rfl rfl (Nat.le_of_ble_eq_true rfl) hg (m_X2_isBelow E hc) ?_
        refine g_if_eq (tgt := 49) C dX1_above_44 (by decide) hd (fun hd => ?_) (fun hd => ?_)
        · refine g_sub [1, 2] rfl ?_
          exact w_X1_above_b49 C E Q ih _ _ _ hd
        · refine g_aload_n C dX1_above_47 rfl 0 rfl ?_
          exact g_aret C Q (Or.inl ⟨_, rfl⟩) hd dX1_above_48
theorem w_X1_above_b0m {K : KT} {r : Option Nat} {S1 : St} (C : GC K RX1 cX1_above 4 7 []) (E : EH (kΓ K) (kHI K) (kl K)) (Q : GQ K (some (Jvm.ClassFile.FieldType.object "SearchKeeper$Root")) (.inl (some (vR r))) S1) : ∀ (S : St) (x0 : Option Nat) (x1 : Option Nat), n_X1_above S x0 x1 = some (r, S1) → G K 4 S 0 [(0, vR x0), (1, vR x1)] [] := by
  intro S x0 x1 hd
  unfold n_X1_above at hd
  refine g_aload_n C dX1_above_0 rfl 0 rfl ?_
  obtain ⟨v1, hv1, hd⟩ := Option.bind_eq_some_iff.mp hd
  refine g_fld C gk_X1 (k := 1) (by decide) q386 (Or.inl rfl) dX1_above_1 (gR_v hv1) ?_
  obtain ⟨hg, hd⟩ := gd_some hd
  obtain ⟨v3, S2, hc, hd⟩ := bn_some hd
  refine g_cF_v (n := 0) C (gk_J4).1 q812 q843 q841 q99 q845 (List.mem_of_getElem? (i := 18) rfl) (by decide +kernel) (by decide) (by decide) dX1_above_4 (As := []) (rest := []) rfl rfl (Nat.le_of_ble_eq_true rfl) hg (mh_J3_iterator E hc) ?_
  refine g_astore_n (L' := [(2, vR v3), (0, vR x0), (1, vR x1)]) C dX1_above_9 rfl (by decide) rfl ?_
  refine g_sub [2, 0] rfl ?_
  exact w_X1_above_b10 C E Q FU _ _ _ hd
theorem m_X1_above {Γ : GG} {HI : St → Heap → Prop} {l : Launch} (E : EH Γ HI l) {S : St} {a0 : Option Nat} {a1 : Option Nat} {r : Option Nat} {S1 : St} (h : n_X1_above S a0 a1 = some (r, S1)) : MS Γ HI l yX1_above cX1_above 4 (some (Jvm.ClassFile.FieldType.object "SearchKeeper$Root")) 7 S [vR a0, vR a1] (.inl (some (vR r))) S1 := by
  refine MS_of E.ntr E.hx (by decide +kernel) rfl (Nat.le_of_ble_eq_true rfl) fun K e1 e2 e3 e4 hnm C Q => ?_
  subst e1; subst e2; subst e3
  exact w_X1_above_b0m C E Q S a0 a1 h

def n_X4_init (S : St) (x0 : Option Nat) (x1 : Option Nat) (x2 : Option Nat) : Option (Unit × St) :=
  gd (x0).isSome <|
  (pR S x0 2 0 x1).bind fun S1 =>
  (pR S1 x0 2 1 x2).bind fun S2 =>
  some ((), S2)
theorem w_X4_init_b0m {K : KT} {r : Unit} {S1 : St} (C : GC K RX4 cX4_init 3 2 []) (E : EH (kΓ K) (kHI K) (kl K)) (Q : GQ K none (.inl none) S1) (hnm : kLv K → (kme K).name = "<init>") : ∀ (S : St) (x0 : Option Nat) (x1 : Option Nat) (x2 : Option Nat), n_X4_init S x0 x1 x2 = some (r, S1) → G K 3 S 0 [(0, vR x0), (1, vR x1), (2, vR x2)] [] := by
  intro S x0 x1 x2 hd
  unfold n_X4_init at hd
  refine g_aload_n C dX4_init_0 rfl 0 rfl ?_
  obtain ⟨hg, hd⟩ := gd_some hd
  refine g_objInit C q1200 q149 q150 (by decide) dX4_init_1 hg (Nat.le_of_ble_eq_true rfl) ?_
  refine g_aload_n C dX4_init_4 rfl 0 rfl ?_
  refine g_aload_n C dX4_init_5 rfl 1 rfl ?_
  obtain ⟨S1, hS1, hd⟩ := Option.bind_eq_some_iff.mp hd
  refine g_putF C gk_X4 (k := 0) (by decide) q1201 rfl rfl hnm rfl dX4_init_6 (fit_ref _ (Or.inl ⟨_, rfl⟩)).1 (fit_ref _ (Or.inl ⟨_, rfl⟩)).2 hS1 ?_
  refine g_aload_n C dX4_init_9 rfl 0 rfl ?_
  refine g_aload_n C dX4_init_10 rfl 2 rfl ?_
  obtain ⟨S2, hS2, hd⟩ := Option.bind_eq_some_iff.mp hd
  refine g_putF C gk_X4 (k := 1) (by decide) q1203 rfl rfl hnm rfl dX4_init_11 (fit_ref _ (Or.inl ⟨_, rfl⟩)).1 (fit_ref _ (Or.inl ⟨_, rfl⟩)).2 hS2 ?_
  exact g_vret C Q hd dX4_init_14
theorem m_X4_init {Γ : GG} {HI : St → Heap → Prop} {l : Launch} (E : EH Γ HI l) {S : St} {a0 : Option Nat} {a1 : Option Nat} {a2 : Option Nat} {r : Unit} {S1 : St} (h : n_X4_init S a0 a1 a2 = some (r, S1)) : MS Γ HI l yX4_init cX4_init 3 none 2 S [vR a0, vR a1, vR a2] (.inl none) S1 := by
  refine MS_of E.ntr E.hx (by decide +kernel) rfl (Nat.le_of_ble_eq_true rfl) fun K e1 e2 e3 e4 hnm C Q => ?_
  subst e1; subst e2; subst e3
  exact w_X4_init_b0m C E Q (by exact hnm) S a0 a1 a2 h

def n_X6_tell_b19 (S : St) (x0 : Option Nat) : Option (Unit × St) :=
  (pI .boolean S x0 4 2 (1 : Int32)).bind fun S1 =>
  (gR S1 x0 4 1).bind fun v2 =>
  gd (grc S1 v2 9) <|
  bn (h_J4_clear S1 v2) fun _ S3 =>
  some ((), S3)
def n_X6_tell (S : St) (x0 : Option Nat) (x1 : Option Nat) (x2 : Option Nat) : Option (Unit × St) :=
  (gI S x0 4 2).bind fun v1 =>
  if v1 = 0 then
    (gR S x0 4 1).bind fun v2 =>
    gd (grc S v2 9) <|
    bn (h_J4_size S v2) fun v4 S3 =>
    if v4 = (8 : Int32) then
      n_X6_tell_b19 S3 x0
    else
      (gR S3 x0 4 1).bind fun v5 =>
      nwB S3 (cO 2 [vR none, vR none]) 2 fun q6 S7 =>
      gd (q6).isSome <|
      bn (n_X4_init S7 q6 x1 x2) fun _ S8 =>
      gd (grc S8 v5 9) <|
      bn (h_J4_addLast S8 v5 q6) fun _ S10 =>
      some ((), S10)
  else
    n_X6_tell_b19 S x0
theorem w_X6_tell_b19 {K : KT} {r : Unit} {S1 : St} (C : GC K RX6 cX6_tell 3 5 []) (E : EH (kΓ K) (kHI K) (kl K)) (Q : GQ K none (.inl none) S1) : ∀ (S : St) (x0 : Option Nat), n_X6_tell_b19 S x0 = some (r, S1) → G K 3 S 19 [(0, vR x0)] [] := by
  intro S x0 hd
  unfold n_X6_tell_b19 at hd
  refine g_aload_n C dX6_tell_19 rfl 0 rfl ?_
  refine g_iconst (v := 1) C dX6_tell_20 (by decide) ?_
  obtain ⟨S1, hS1, hd⟩ := Option.bind_eq_some_iff.mp hd
  refine g_put C gk_X6 (k := 2) (by decide) q1440 (Or.inl rfl) rfl dX6_tell_21 (gfit_ok (pI_v hS1).1).1 (gfit_ok (pI_v hS1).1).2 (pI_v hS1).2 ?_
  refine g_aload_n C dX6_tell_24 rfl 0 rfl ?_
  obtain ⟨v2, hv2, hd⟩ := Option.bind_eq_some_iff.mp hd
  refine g_fld C gk_X6 (k := 1) (by decide) q1438 (Or.inl rfl) dX6_tell_25 (gR_v hv2) ?_
  obtain ⟨hg, hd⟩ := gd_some hd
  obtain ⟨_, S3, hc, hd⟩ := bn_some hd
  refine g_cV_n (n := 0) C (gk_J4).1 q1191 q1192 q1193 q100 q1194 (by decide +kernel) (by decide) (by decide) dX6_tell_28 (As := []) (rest := []) rfl rfl (Nat.le_of_ble_eq_true rfl) hg (mh_J4_clear E hc) ?_
  refine g_goto (tgt := 50) C dX6_tell_31 (by decide) ?_
  exact g_vret C Q hd dX6_tell_50
theorem w_X6_tell_b0m {K : KT} {r : Unit} {S1 : St} (C : GC K RX6 cX6_tell 3 5 []) (E : EH (kΓ K) (kHI K) (kl K)) (Q : GQ K none (.inl none) S1) : ∀ (S : St) (x0 : Option Nat) (x1 : Option Nat) (x2 : Option Nat), n_X6_tell S x0 x1 x2 = some (r, S1) → G K 3 S 0 [(0, vR x0), (1, vR x1), (2, vR x2)] [] := by
  intro S x0 x1 x2 hd
  unfold n_X6_tell at hd
  refine g_aload_n C dX6_tell_0 rfl 0 rfl ?_
  obtain ⟨v1, hv1, hd⟩ := Option.bind_eq_some_iff.mp hd
  refine g_fld C gk_X6 (k := 2) (by decide) q1440 (Or.inl rfl) dX6_tell_1 (gI_v hv1) ?_
  refine g_if_ne (tgt := 19) C dX6_tell_4 (by decide) hd (fun hd => ?_) (fun hd => ?_)
  · refine g_sub [0] rfl ?_
    exact w_X6_tell_b19 C E Q _ _ hd
  · refine g_aload_n C dX6_tell_7 rfl 0 rfl ?_
    obtain ⟨v2, hv2, hd⟩ := Option.bind_eq_some_iff.mp hd
    refine g_fld C gk_X6 (k := 1) (by decide) q1438 (Or.inl rfl) dX6_tell_8 (gR_v hv2) ?_
    obtain ⟨hg, hd⟩ := gd_some hd
    obtain ⟨v4, S3, hc, hd⟩ := bn_some hd
    refine g_cV_v (n := 0) C (gk_J4).1 q1190 q437 q2416 q100 q439 (by decide +kernel) (by decide) (by decide) dX6_tell_11 (As := []) (rest := []) rfl rfl (Nat.le_of_ble_eq_true rfl) hg (mh_J4_size E hc) ?_
    refine g_bipush (v := 8) C dX6_tell_14 (by decide) ?_
    refine g_icmp_ne (tgt := 34) C dX6_tell_16 (by decide) hd (fun hd => ?_) (fun hd => ?_)
    · refine g_aload_n C dX6_tell_34 rfl 0 rfl ?_
      obtain ⟨v5, hv5, hd⟩ := Option.bind_eq_some_iff.mp hd
      refine g_fld C gk_X6 (k := 1) (by decide) q1438 (Or.inl rfl) dX6_tell_35 (gR_v hv5) ?_
      refine g_new C gk_X4 (fun j hj => gdf_X4 j hj) q1195 q1196 q133 dX6_tell_38 hd (fun q6 S7 hd => ?_)
      refine g_dup C dX6_tell_41 rfl ?_
      refine g_aload_n C dX6_tell_42 rfl 1 rfl ?_
      refine g_aload_n C dX6_tell_43 rfl 2 rfl ?_
      obtain ⟨hg, hd⟩ := gd_some hd
      obtain ⟨_, S8, hc, hd⟩ := bn_some hd
      refine g_cI_n (n := 2) C q1197 q1198 q133 q1199 rfl (by decide +kernel) (by decide) (by decide) dX6_tell_44 (As := [vR x1, vR x2]) (rest := [vR q6, vR v5]) rfl rfl (Nat.le_of_ble_eq_true rfl) hg (m_X4_init E hc) ?_
      obtain ⟨hg, hd⟩ := gd_some hd
      obtain ⟨_, S10, hc, hd⟩ := bn_some hd
      refine g_cV_n (n := 1) C (gk_J4).1 q1210 q1211 q1212 q100 q1213 (by decide +kernel) (by decide) (by decide) dX6_tell_47 (As := [vR q6]) (rest := []) rfl rfl (Nat.le_of_ble_eq_true rfl) hg (mh_J4_addLast E hc) ?_
      exact g_vret C Q hd dX6_tell_50
    · refine g_sub [0] rfl ?_
      exact w_X6_tell_b19 C E Q _ _ hd
theorem m_X6_tell {Γ : GG} {HI : St → Heap → Prop} {l : Launch} (E : EH Γ HI l) {S : St} {a0 : Option Nat} {a1 : Option Nat} {a2 : Option Nat} {r : Unit} {S1 : St} (h : n_X6_tell S a0 a1 a2 = some (r, S1)) : MS Γ HI l yX6_tell cX6_tell 3 none 5 S [vR a0, vR a1, vR a2] (.inl none) S1 := by
  refine MS_of E.ntr E.hx (by decide +kernel) rfl (Nat.le_of_ble_eq_true rfl) fun K e1 e2 e3 e4 hnm C Q => ?_
  subst e1; subst e2; subst e3
  exact w_X6_tell_b0m C E Q S a0 a1 a2 h

def n_X1_tell (S : St) (x0 : Option Nat) (x1 : Option Nat) (x2 : Option Nat) (x3 : Option Nat) : Option (Unit × St) :=
  if x1 = none then
    some ((), S)
  else
    gd (grc S x1 4) <|
    bn (n_X6_tell S x1 x2 x3) fun _ S1 =>
    some ((), S1)
theorem w_X1_tell_b0m {K : KT} {r : Unit} {S1 : St} (C : GC K RX1 cX1_tell 4 6 []) (E : EH (kΓ K) (kHI K) (kl K)) (Q : GQ K none (.inl none) S1) : ∀ (S : St) (x0 : Option Nat) (x1 : Option Nat) (x2 : Option Nat) (x3 : Option Nat), n_X1_tell S x0 x1 x2 x3 = some (r, S1) → G K 4 S 0 [(0, vR x0), (1, vR x1), (2, vR x2), (3, vR x3)] [] := by
  intro S x0 x1 x2 x3 hd
  unfold n_X1_tell at hd
  refine g_aload_n C dX1_tell_0 rfl 1 rfl ?_
  refine g_ifnull (tgt := 10) C dX1_tell_1 (by decide) hd (fun hd => ?_) (fun hd => ?_)
  · exact g_vret C Q hd dX1_tell_10
  · refine g_aload_n C dX1_tell_4 rfl 1 rfl ?_
    refine g_aload_n C dX1_tell_5 rfl 2 rfl ?_
    refine g_aload_n C dX1_tell_6 rfl 3 rfl ?_
    obtain ⟨hg, hd⟩ := gd_some hd
    obtain ⟨_, S1, hc, hd⟩ := bn_some hd
    refine g_cV_n (n := 2) C (gk_X6).1 q1186 q1187 q1188 q137 q1189 (by decide +kernel) (by decide) (by decide) dX1_tell_7 (As := [vR x2, vR x3]) (rest := []) rfl rfl (Nat.le_of_ble_eq_true rfl) hg (m_X6_tell E hc) ?_
    exact g_vret C Q hd dX1_tell_10
theorem m_X1_tell {Γ : GG} {HI : St → Heap → Prop} {l : Launch} (E : EH Γ HI l) {S : St} {a0 : Option Nat} {a1 : Option Nat} {a2 : Option Nat} {a3 : Option Nat} {r : Unit} {S1 : St} (h : n_X1_tell S a0 a1 a2 a3 = some (r, S1)) : MS Γ HI l yX1_tell cX1_tell 4 none 6 S [vR a0, vR a1, vR a2, vR a3] (.inl none) S1 := by
  refine MS_of E.ntr E.hx (by decide +kernel) rfl (Nat.le_of_ble_eq_true rfl) fun K e1 e2 e3 e4 hnm C Q => ?_
  subst e1; subst e2; subst e3
  exact w_X1_tell_b0m C E Q S a0 a1 a2 a3 h

def n_X1_need (S : St) (x0 : Int32) : Option ((Unit ⊕ String) × St) :=
  if x0 = 0 then
    some (Sum.inr "java/lang/IndexOutOfBoundsException", (ssk S 6))
  else
    some (Sum.inl (), S)
theorem w_X1_need_b0m {K : KT} {r : (Unit ⊕ String)} {S1 : St} (C : GC K RX1 cX1_need 1 8 []) (E : EH (kΓ K) (kHI K) (kl K)) (Q : GQ K none (resV r) S1) : ∀ (S : St) (x0 : Int32), n_X1_need S x0 = some (r, S1) → G K 1 S 0 [(0, vI x0)] [] := by
  intro S x0 hd
  unfold n_X1_need at hd
  refine g_iload_n C dX1_need_0 rfl 0 rfl ?_
  refine g_if_ne (tgt := 12) C dX1_need_1 (by decide) hd (fun hd => ?_) (fun hd => ?_)
  · exact g_vretT C Q hd dX1_need_12
  · cases hd
    exact g_throw C ["java/lang/RuntimeException", "java/lang/Exception"] (by decide) (by decide) q1136 q112 thw_X1_12.1 thw_X1_12.2 (by decide) (by decide) (Nat.le_of_ble_eq_true rfl) Q rfl dX1_need_4 dX1_need_7 dX1_need_8 dX1_need_11
theorem m_X1_need {Γ : GG} {HI : St → Heap → Prop} {l : Launch} (E : EH Γ HI l) {S : St} {a0 : Int32} {r : (Unit ⊕ String)} {S1 : St} (h : n_X1_need S a0 = some (r, S1)) : MS Γ HI l yX1_need cX1_need 1 none 8 S [vI a0] (resV r) S1 := by
  refine MS_of E.ntr E.hx (by decide +kernel) rfl (Nat.le_of_ble_eq_true rfl) fun K e1 e2 e3 e4 hnm C Q => ?_
  subst e1; subst e2; subst e3
  exact w_X1_need_b0m C E Q S a0 h

def n_X1_isIn (S : St) (x0 : Int32) (x1 : Int32) (x2 : Int32) : Option (Int32 × St) :=
  if x0 < x1 then
    rtI id (Jvm.ClassFile.FieldType.boolean) (0 : Int32) S
  else
    if x2 < x0 then
      rtI id (Jvm.ClassFile.FieldType.boolean) (0 : Int32) S
    else
      rtI id (Jvm.ClassFile.FieldType.boolean) (1 : Int32) S
theorem w_X1_isIn_b0m {K : KT} {r : Int32} {S1 : St} (C : GC K RX1 cX1_isIn 3 2 []) (E : EH (kΓ K) (kHI K) (kl K)) (Q : GQ K (some (Jvm.ClassFile.FieldType.boolean)) (.inl (some (vI r))) S1) : ∀ (S : St) (x0 : Int32) (x1 : Int32) (x2 : Int32), n_X1_isIn S x0 x1 x2 = some (r, S1) → G K 3 S 0 [(0, vI x0), (1, vI x1), (2, vI x2)] [] := by
  intro S x0 x1 x2 hd
  unfold n_X1_isIn at hd
  refine g_iload_n C dX1_isIn_0 rfl 0 rfl ?_
  refine g_iload_n C dX1_isIn_1 rfl 1 rfl ?_
  refine g_icmp_lt (tgt := 14) C dX1_isIn_2 (by decide) hd (fun hd => ?_) (fun hd => ?_)
  · refine g_iconst (v := 0) C dX1_isIn_14 (by decide) ?_
    exact g_iret C Q hd dX1_isIn_15
  · refine g_iload_n C dX1_isIn_5 rfl 0 rfl ?_
    refine g_iload_n C dX1_isIn_6 rfl 2 rfl ?_
    refine g_icmp_gt (tgt := 14) C dX1_isIn_7 (by decide) hd (fun hd => ?_) (fun hd => ?_)
    · refine g_iconst (v := 0) C dX1_isIn_14 (by decide) ?_
      exact g_iret C Q hd dX1_isIn_15
    · refine g_iconst (v := 1) C dX1_isIn_10 (by decide) ?_
      refine g_goto (tgt := 15) C dX1_isIn_11 (by decide) ?_
      exact g_iret C Q hd dX1_isIn_15
theorem m_X1_isIn {Γ : GG} {HI : St → Heap → Prop} {l : Launch} (E : EH Γ HI l) {S : St} {a0 : Int32} {a1 : Int32} {a2 : Int32} {r : Int32} {S1 : St} (h : n_X1_isIn S a0 a1 a2 = some (r, S1)) : MS Γ HI l yX1_isIn cX1_isIn 3 (some (Jvm.ClassFile.FieldType.boolean)) 2 S [vI a0, vI a1, vI a2] (.inl (some (vI r))) S1 := by
  refine MS_of E.ntr E.hx (by decide +kernel) rfl (Nat.le_of_ble_eq_true rfl) fun K e1 e2 e3 e4 hnm C Q => ?_
  subst e1; subst e2; subst e3
  exact w_X1_isIn_b0m C E Q S a0 a1 a2 h

def n_X1_nodeAt (S : St) (x0 : Option Nat) (x1 : Int32) : Option (Option Nat × St) :=
  (gR S x0 0 0).bind fun v1 =>
  gd (grc S v1 8) <|
  bn (h_J2_size S v1) fun v3 S2 =>
  bn (n_X1_isIn S2 x1 (0 : Int32) (v3 - (1 : Int32))) fun v5 S4 =>
  if v5 = 0 then
    some (none, S4)
  else
    (gR S4 x0 0 0).bind fun v6 =>
    gd (grc S4 v6 8) <|
    bn (h_J2_get S4 v6 x1) fun v8 S7 =>
    gd (gcst S7 v8 1) <|
    (gI S7 v8 1 8).bind fun v9 =>
    if v9 = 0 then
      (gR S7 x0 0 0).bind fun v10 =>
      gd (grc S7 v10 8) <|
      bn (h_J2_get S7 v10 x1) fun v12 S11 =>
      gd (gcst S11 v12 1) <|
      some (v12, S11)
    else
      some (none, S7)
theorem w_X1_nodeAt_b0m {K : KT} {r : Option Nat} {S1 : St} (C : GC K RX1 cX1_nodeAt 2 5 []) (E : EH (kΓ K) (kHI K) (kl K)) (Q : GQ K (some (Jvm.ClassFile.FieldType.object "SearchKeeper$Node")) (.inl (some (vR r))) S1) : ∀ (S : St) (x0 : Option Nat) (x1 : Int32), n_X1_nodeAt S x0 x1 = some (r, S1) → G K 2 S 0 [(0, vR x0), (1, vI x1)] [] := by
  intro S x0 x1 hd
  unfold n_X1_nodeAt at hd
  refine g_iload_n C dX1_nodeAt_0 rfl 1 rfl ?_
  refine g_iconst (v := 0) C dX1_nodeAt_1 (by decide) ?_
  refine g_aload_n C dX1_nodeAt_2 rfl 0 rfl ?_
  obtain ⟨v1, hv1, hd⟩ := Option.bind_eq_some_iff.mp hd
  refine g_fld C gk_X1 (k := 0) (by decide) q385 (Or.inl rfl) dX1_nodeAt_3 (gR_v hv1) ?_
  obtain ⟨hg, hd⟩ := gd_some hd
  obtain ⟨v3, S2, hc, hd⟩ := bn_some hd
  refine g_cF_v (n := 0) C (gk_J2).1 q427 q432 q430 q98 q434 (List.mem_of_getElem? (i := 1) rfl) (by decide +kernel) (by decide) (by decide) dX1_nodeAt_6 (As := []) (rest := [vI (0 : Int32), vI x1]) rfl rfl (Nat.le_of_ble_eq_true rfl) hg (mh_J2_size E hc) ?_
  refine g_iconst (v := 1) C dX1_nodeAt_11 (by decide) ?_
  refine g_isub C dX1_nodeAt_12 ?_
  obtain ⟨v5, S4, hc, hd⟩ := bn_some hd
  refine g_cS_v (n := 3) C q1130 q1131 q95 q1132 (by decide +kernel) (by decide) (by decide) dX1_nodeAt_13 (As := [vI x1, vI (0 : Int32), vI (v3 - (1 : Int32))]) (rest := []) rfl rfl (Nat.le_of_ble_eq_true rfl) (m_X1_isIn E hc) ?_
  refine g_if_eq (tgt := 54) C dX1_nodeAt_16 (by decide) hd (fun hd => ?_) (fun hd => ?_)
  · refine g_null C dX1_nodeAt_54 ?_
    exact g_aret C Q (Or.inl ⟨_, rfl⟩) hd dX1_nodeAt_55
  · refine g_aload_n C dX1_nodeAt_19 rfl 0 rfl ?_
    obtain ⟨v6, hv6, hd⟩ := Option.bind_eq_some_iff.mp hd
    refine g_fld C gk_X1 (k := 0) (by decide) q385 (Or.inl rfl) dX1_nodeAt_20 (gR_v hv6) ?_
    refine g_iload_n C dX1_nodeAt_23 rfl 1 rfl ?_
    obtain ⟨hg, hd⟩ := gd_some hd
    obtain ⟨v8, S7, hc, hd⟩ := bn_some hd
    refine g_cF_v (n := 1) C (gk_J2).1 q441 q446 q444 q98 q448 (List.mem_of_getElem? (i := 2) rfl) (by decide +kernel) (by decide) (by decide) dX1_nodeAt_24 (As := [vI x1]) (rest := []) rfl rfl (Nat.le_of_ble_eq_true rfl) hg (mh_J2_get E hc) ?_
    refine g_cast C (gk_X2).1 q231 dX1_nodeAt_29 hd (fun hd => ?_)
    obtain ⟨v9, hv9, hd⟩ := Option.bind_eq_some_iff.mp hd
    refine g_fldN C gk_X2 (k := 8) (by decide) q253 rfl dX1_nodeAt_32 (gI_v hv9) ?_
    refine g_if_ne (tgt := 54) C dX1_nodeAt_35 (by decide) hd (fun hd => ?_) (fun hd => ?_)
    · refine g_null C dX1_nodeAt_54 ?_
      exact g_aret C Q (Or.inl ⟨_, rfl⟩) hd dX1_nodeAt_55
    · refine g_aload_n C dX1_nodeAt_38 rfl 0 rfl ?_
      obtain ⟨v10, hv10, hd⟩ := Option.bind_eq_some_iff.mp hd
      refine g_fld C gk_X1 (k := 0) (by decide) q385 (Or.inl rfl) dX1_nodeAt_39 (gR_v hv10) ?_
      refine g_iload_n C dX1_nodeAt_42 rfl 1 rfl ?_
      obtain ⟨hg, hd⟩ := gd_some hd
      obtain ⟨v12, S11, hc, hd⟩ := bn_some hd
      refine g_cF_v (n := 1) C (gk_J2).1 q441 q446 q444 q98 q448 (List.mem_of_getElem? (i := 2) rfl) (by decide +kernel) (by decide) (by decide) dX1_nodeAt_43 (As := [vI x1]) (rest := []) rfl rfl (Nat.le_of_ble_eq_true rfl) hg (mh_J2_get E hc) ?_
      refine g_cast C (gk_X2).1 q231 dX1_nodeAt_48 hd (fun hd => ?_)
      refine g_goto (tgt := 55) C dX1_nodeAt_51 (by decide) ?_
      exact g_aret C Q (Or.inl ⟨_, rfl⟩) hd dX1_nodeAt_55
theorem m_X1_nodeAt {Γ : GG} {HI : St → Heap → Prop} {l : Launch} (E : EH Γ HI l) {S : St} {a0 : Option Nat} {a1 : Int32} {r : Option Nat} {S1 : St} (h : n_X1_nodeAt S a0 a1 = some (r, S1)) : MS Γ HI l yX1_nodeAt cX1_nodeAt 2 (some (Jvm.ClassFile.FieldType.object "SearchKeeper$Node")) 5 S [vR a0, vI a1] (.inl (some (vR r))) S1 := by
  refine MS_of E.ntr E.hx (by decide +kernel) rfl (Nat.le_of_ble_eq_true rfl) fun K e1 e2 e3 e4 hnm C Q => ?_
  subst e1; subst e2; subst e3
  exact w_X1_nodeAt_b0m C E Q S a0 a1 h

def n_X1_folderAt_b22 (S : St) (x2 : Option Nat) (y0 : Int32) : Option ((Option Nat ⊕ String) × St) :=
  tbn (n_X1_need S y0) fun _ S1 =>
  some (Sum.inl x2, S1)
def n_X1_folderAt_b21 (S : St) (x2 : Option Nat) : Option ((Option Nat ⊕ String) × St) :=
  n_X1_folderAt_b22 S x2 (0 : Int32)
def n_X1_folderAt (S : St) (x0 : Option Nat) (x1 : Int32) : Option ((Option Nat ⊕ String) × St) :=
  gd (grc S x0 0) <|
  bn (n_X1_nodeAt S x0 x1) fun v2 S1 =>
  if v2 = none then
    n_X1_folderAt_b21 S1 v2
  else
    (gI S1 v2 1 1).bind fun v3 =>
    if v3 = 0 then
      n_X1_folderAt_b21 S1 v2
    else
      n_X1_folderAt_b22 S1 v2 (1 : Int32)
theorem w_X1_folderAt_b22 {K : KT} {r : (Option Nat ⊕ String)} {S1 : St} (C : GC K RX1 cX1_folderAt 3 9 []) (E : EH (kΓ K) (kHI K) (kl K)) (Q : GQ K (some (Jvm.ClassFile.FieldType.object "SearchKeeper$Node")) (resR r) S1) : ∀ (S : St) (x2 : Option Nat) (y0 : Int32), n_X1_folderAt_b22 S x2 y0 = some (r, S1) → G K 3 S 22 [(2, vR x2)] [vI y0] := by
  intro S x2 y0 hd
  unfold n_X1_folderAt_b22 at hd
  rcases tbn_some hd with ⟨X9, S1, hc, hz⟩ | ⟨_, S1, hc, hd⟩
  · cases hz; exact g_cS_x (n := 1) C q1133 q1134 q95 q1135 (by decide +kernel) (by decide) (by decide) dX1_folderAt_22 (As := [vI y0]) (rest := []) rfl rfl (Nat.le_of_ble_eq_true rfl) (m_X1_need E hc) (g_out C Q)
  refine g_cS_n (n := 1) C q1133 q1134 q95 q1135 (by decide +kernel) (by decide) (by decide) dX1_folderAt_22 (As := [vI y0]) (rest := []) rfl rfl (Nat.le_of_ble_eq_true rfl) (m_X1_need E hc) ?_
  refine g_aload_n C dX1_folderAt_25 rfl 0 rfl ?_
  exact g_aretT C Q (Or.inl ⟨_, rfl⟩) hd dX1_folderAt_26
theorem w_X1_folderAt_b21 {K : KT} {r : (Option Nat ⊕ String)} {S1 : St} (C : GC K RX1 cX1_folderAt 3 9 []) (E : EH (kΓ K) (kHI K) (kl K)) (Q : GQ K (some (Jvm.ClassFile.FieldType.object "SearchKeeper$Node")) (resR r) S1) : ∀ (S : St) (x2 : Option Nat), n_X1_folderAt_b21 S x2 = some (r, S1) → G K 3 S 21 [(2, vR x2)] [] := by
  intro S x2 hd
  unfold n_X1_folderAt_b21 at hd
  refine g_iconst (v := 0) C dX1_folderAt_21 (by decide) ?_
  refine g_sub [0] rfl ?_
  exact w_X1_folderAt_b22 C E Q _ _ _ hd
theorem w_X1_folderAt_b0m {K : KT} {r : (Option Nat ⊕ String)} {S1 : St} (C : GC K RX1 cX1_folderAt 3 9 []) (E : EH (kΓ K) (kHI K) (kl K)) (Q : GQ K (some (Jvm.ClassFile.FieldType.object "SearchKeeper$Node")) (resR r) S1) : ∀ (S : St) (x0 : Option Nat) (x1 : Int32), n_X1_folderAt S x0 x1 = some (r, S1) → G K 3 S 0 [(0, vR x0), (1, vI x1)] [] := by
  intro S x0 x1 hd
  unfold n_X1_folderAt at hd
  refine g_aload_n C dX1_folderAt_0 rfl 0 rfl ?_
  refine g_iload_n C dX1_folderAt_1 rfl 1 rfl ?_
  obtain ⟨hg, hd⟩ := gd_some hd
  obtain ⟨v2, S1, hc, hd⟩ := bn_some hd
  refine g_cV_v (n := 1) C (gk_X1).1 q1126 q1128 qs16 q95 q1129 (by decide +kernel) (by decide) (by decide) dX1_folderAt_2 (As := [vI x1]) (rest := []) rfl rfl (Nat.le_of_ble_eq_true rfl) hg (m_X1_nodeAt E hc) ?_
  refine g_astore_n (L' := [(2, vR v2), (0, vR x0), (1, vI x1)]) C dX1_folderAt_5 rfl (by decide) rfl ?_
  refine g_aload_n C dX1_folderAt_6 rfl 0 rfl ?_
  refine g_ifnull (tgt := 21) C dX1_folderAt_7 (by decide) hd (fun hd => ?_) (fun hd => ?_)
  · refine g_sub [0] rfl ?_
    exact w_X1_folderAt_b21 C E Q _ _ hd
  · refine g_aload_n C dX1_folderAt_10 rfl 0 rfl ?_
    obtain ⟨v3, hv3, hd⟩ := Option.bind_eq_some_iff.mp hd
    refine g_fldN C gk_X2 (k := 1) (by decide) q242 rfl dX1_folderAt_11 (gI_v hv3) ?_
    refine g_if_eq (tgt := 21) C dX1_folderAt_14 (by decide) hd (fun hd => ?_) (fun hd => ?_)
    · refine g_sub [0] rfl ?_
      exact w_X1_folderAt_b21 C E Q _ _ hd
    · refine g_iconst (v := 1) C dX1_folderAt_17 (by decide) ?_
      refine g_goto (tgt := 22) C dX1_folderAt_18 (by decide) ?_
      refine g_sub [0] rfl ?_
      exact w_X1_folderAt_b22 C E Q _ _ _ hd
theorem m_X1_folderAt {Γ : GG} {HI : St → Heap → Prop} {l : Launch} (E : EH Γ HI l) {S : St} {a0 : Option Nat} {a1 : Int32} {r : (Option Nat ⊕ String)} {S1 : St} (h : n_X1_folderAt S a0 a1 = some (r, S1)) : MS Γ HI l yX1_folderAt cX1_folderAt 3 (some (Jvm.ClassFile.FieldType.object "SearchKeeper$Node")) 9 S [vR a0, vI a1] (resR r) S1 := by
  refine MS_of E.ntr E.hx (by decide +kernel) rfl (Nat.le_of_ble_eq_true rfl) fun K e1 e2 e3 e4 hnm C Q => ?_
  subst e1; subst e2; subst e3
  exact w_X1_folderAt_b0m C E Q S a0 a1 h

def n_X1_isName (S : St) (x0 : Int32) : Option (Int32 × St) :=
  if x0 < (97 : Int32) then
    rtI id (Jvm.ClassFile.FieldType.boolean) (0 : Int32) S
  else
    if (122 : Int32) < x0 then
      rtI id (Jvm.ClassFile.FieldType.boolean) (0 : Int32) S
    else
      rtI id (Jvm.ClassFile.FieldType.boolean) (1 : Int32) S
theorem w_X1_isName_b0m {K : KT} {r : Int32} {S1 : St} (C : GC K RX1 cX1_isName 1 2 []) (E : EH (kΓ K) (kHI K) (kl K)) (Q : GQ K (some (Jvm.ClassFile.FieldType.boolean)) (.inl (some (vI r))) S1) : ∀ (S : St) (x0 : Int32), n_X1_isName S x0 = some (r, S1) → G K 1 S 0 [(0, vI x0)] [] := by
  intro S x0 hd
  unfold n_X1_isName at hd
  refine g_iload_n C dX1_isName_0 rfl 0 rfl ?_
  refine g_bipush (v := 97) C dX1_isName_1 (by decide) ?_
  refine g_icmp_lt (tgt := 16) C dX1_isName_3 (by decide) hd (fun hd => ?_) (fun hd => ?_)
  · refine g_iconst (v := 0) C dX1_isName_16 (by decide) ?_
    exact g_iret C Q hd dX1_isName_17
  · refine g_iload_n C dX1_isName_6 rfl 0 rfl ?_
    refine g_bipush (v := 122) C dX1_isName_7 (by decide) ?_
    refine g_icmp_gt (tgt := 16) C dX1_isName_9 (by decide) hd (fun hd => ?_) (fun hd => ?_)
    · refine g_iconst (v := 0) C dX1_isName_16 (by decide) ?_
      exact g_iret C Q hd dX1_isName_17
    · refine g_iconst (v := 1) C dX1_isName_12 (by decide) ?_
      refine g_goto (tgt := 17) C dX1_isName_13 (by decide) ?_
      exact g_iret C Q hd dX1_isName_17
theorem m_X1_isName {Γ : GG} {HI : St → Heap → Prop} {l : Launch} (E : EH Γ HI l) {S : St} {a0 : Int32} {r : Int32} {S1 : St} (h : n_X1_isName S a0 = some (r, S1)) : MS Γ HI l yX1_isName cX1_isName 1 (some (Jvm.ClassFile.FieldType.boolean)) 2 S [vI a0] (.inl (some (vI r))) S1 := by
  refine MS_of E.ntr E.hx (by decide +kernel) rfl (Nat.le_of_ble_eq_true rfl) fun K e1 e2 e3 e4 hnm C Q => ?_
  subst e1; subst e2; subst e3
  exact w_X1_isName_b0m C E Q S a0 h

def n_X1_check (S : St) (x0 : Int32) : Option ((Unit ⊕ String) × St) :=
  if x0 = 0 then
    some (Sum.inr "java/lang/IllegalArgumentException", (ssk S 6))
  else
    some (Sum.inl (), S)
theorem w_X1_check_b0m {K : KT} {r : (Unit ⊕ String)} {S1 : St} (C : GC K RX1 cX1_check 1 8 []) (E : EH (kΓ K) (kHI K) (kl K)) (Q : GQ K none (resV r) S1) : ∀ (S : St) (x0 : Int32), n_X1_check S x0 = some (r, S1) → G K 1 S 0 [(0, vI x0)] [] := by
  intro S x0 hd
  unfold n_X1_check at hd
  refine g_iload_n C dX1_check_0 rfl 0 rfl ?_
  refine g_if_ne (tgt := 12) C dX1_check_1 (by decide) hd (fun hd => ?_) (fun hd => ?_)
  · exact g_vretT C Q hd dX1_check_12
  · cases hd
    exact g_throw C ["java/lang/RuntimeException", "java/lang/Exception"] (by decide) (by decide) q1153 q123 thw_X1_3.1 thw_X1_3.2 (by decide) (by decide) (Nat.le_of_ble_eq_true rfl) Q rfl dX1_check_4 dX1_check_7 dX1_check_8 dX1_check_11
theorem m_X1_check {Γ : GG} {HI : St → Heap → Prop} {l : Launch} (E : EH Γ HI l) {S : St} {a0 : Int32} {r : (Unit ⊕ String)} {S1 : St} (h : n_X1_check S a0 = some (r, S1)) : MS Γ HI l yX1_check cX1_check 1 none 8 S [vI a0] (resV r) S1 := by
  refine MS_of E.ntr E.hx (by decide +kernel) rfl (Nat.le_of_ble_eq_true rfl) fun K e1 e2 e3 e4 hnm C Q => ?_
  subst e1; subst e2; subst e3
  exact w_X1_check_b0m C E Q S a0 h

def n_X1_isTaken_b78 (k6 : St → Option Nat → Option Nat → Int32 → Option Nat → Int32 → Int32 → Option (Int32 × St)) (S : St) (x0 : Option Nat) (x1 : Option Nat) (x2 : Int32) (x3 : Option Nat) (x5 : Int32) (y0 : Int32) : Option (Int32 × St) :=
  k6 S x0 x1 x2 x3 y0 (x5 + 1)
def n_X1_isTaken_b73 (k6 : St → Option Nat → Option Nat → Int32 → Option Nat → Int32 → Int32 → Option (Int32 × St)) (S : St) (x0 : Option Nat) (x1 : Option Nat) (x2 : Int32) (x3 : Option Nat) (x5 : Int32) : Option (Int32 × St) :=
  n_X1_isTaken_b78 k6 S x0 x1 x2 x3 x5 (1 : Int32)
def n_X1_isTaken_b77 (k6 : St → Option Nat → Option Nat → Int32 → Option Nat → Int32 → Int32 → Option (Int32 × St)) (S : St) (x0 : Option Nat) (x1 : Option Nat) (x2 : Int32) (x3 : Option Nat) (x5 : Int32) : Option (Int32 × St) :=
  n_X1_isTaken_b78 k6 S x0 x1 x2 x3 x5 (0 : Int32)
def n_X1_isTaken_b6 : Nat → St → Option Nat → Option Nat → Int32 → Option Nat → Int32 → Int32 → Option (Int32 × St)
  | 0 => fun _ _ _ _ _ _ _ => none
  | n + 1 => fun S x0 x1 x2 x3 x4 x5 =>
    (gR S x0 0 0).bind fun v1 =>
    gd (grc S v1 8) <|
    bn (h_J2_size S v1) fun v3 S2 =>
    if v3 ≤ x5 then
      rtI id (Jvm.ClassFile.FieldType.boolean) x4 S2
    else
      (gR S2 x0 0 0).bind fun v4 =>
      gd (grc S2 v4 8) <|
      bn (h_J2_get S2 v4 x5) fun v6 S5 =>
      gd (gcst S5 v6 1) <|
      if x4 = 0 then
        (gI S5 v6 1 8).bind fun v7 =>
        if v7 = 0 then
          if v6 = x3 then
            n_X1_isTaken_b77 (n_X1_isTaken_b6 n) S5 x0 x1 x2 x3 x5
          else
            (gR S5 v6 1 2).bind fun v8 =>
            if v8 = x1 then
              (gI S5 v6 1 3).bind fun v9 =>
              if v9 = x2 then
                n_X1_isTaken_b73 (n_X1_isTaken_b6 n) S5 x0 x1 x2 x3 x5
              else
                n_X1_isTaken_b77 (n_X1_isTaken_b6 n) S5 x0 x1 x2 x3 x5
            else
              n_X1_isTaken_b77 (n_X1_isTaken_b6 n) S5 x0 x1 x2 x3 x5
        else
          n_X1_isTaken_b77 (n_X1_isTaken_b6 n) S5 x0 x1 x2 x3 x5
      else
        n_X1_isTaken_b73 (n_X1_isTaken_b6 n) S5 x0 x1 x2 x3 x5
def n_X1_isTaken (S : St) (x0 : Option Nat) (x1 : Option Nat) (x2 : Int32) (x3 : Option Nat) : Option (Int32 × St) :=
  n_X1_isTaken_b6 FU S x0 x1 x2 x3 (0 : Int32) (0 : Int32)
theorem w_X1_isTaken_b78 {K : KT} {r : Int32} {S1 : St} (C : GC K RX1 cX1_isTaken 7 5 []) (E : EH (kΓ K) (kHI K) (kl K)) (Q : GQ K (some (Jvm.ClassFile.FieldType.boolean)) (.inl (some (vI r))) S1) {k6 : St → Option Nat → Option Nat → Int32 → Option Nat → Int32 → Int32 → Option (Int32 × St)} (h6 : ∀ (S : St) (x0 : Option Nat) (x1 : Option Nat) (x2 : Int32) (x3 : Option Nat) (x4 : Int32) (x5 : Int32), k6 S x0 x1 x2 x3 x4 x5 = some (r, S1) → G K 7 S 6 [(0, vR x0), (1, vR x1), (2, vI x2), (3, vR x3), (4, vI x4), (5, vI x5)] []) : ∀ (S : St) (x0 : Option Nat) (x1 : Option Nat) (x2 : Int32) (x3 : Option Nat) (x5 : Int32) (y0 : Int32), n_X1_isTaken_b78 k6 S x0 x1 x2 x3 x5 y0 = some (r, S1) → G K 7 S 78 [(0, vR x0), (1, vR x1), (2, vI x2), (3, vR x3), (5, vI x5)] [vI y0] := by
  intro S x0 x1 x2 x3 x5 y0 hd
  unfold n_X1_isTaken_b78 at hd
  refine g_istore (L' := [(4, vI y0), (0, vR x0), (1, vR x1), (2, vI x2), (3, vR x3), (5, vI x5)]) C dX1_isTaken_78 (by decide) rfl ?_
  refine g_iinc (v := x5 + 1) (L' := [(5, vI (x5 + 1)), (4, vI y0), (0, vR x0), (1, vR x1), (2, vI x2), (3, vR x3)]) C dX1_isTaken_80 5 rfl rfl (by decide) rfl ?_
  refine g_goto (tgt := 6) C dX1_isTaken_83 (by decide) ?_
  refine g_sub [2, 3, 4, 5, 1, 0] rfl ?_
  exact h6 _ _ _ _ _ _ _ hd
theorem w_X1_isTaken_b73 {K : KT} {r : Int32} {S1 : St} (C : GC K RX1 cX1_isTaken 7 5 []) (E : EH (kΓ K) (kHI K) (kl K)) (Q : GQ K (some (Jvm.ClassFile.FieldType.boolean)) (.inl (some (vI r))) S1) {k6 : St → Option Nat → Option Nat → Int32 → Option Nat → Int32 → Int32 → Option (Int32 × St)} (h6 : ∀ (S : St) (x0 : Option Nat) (x1 : Option Nat) (x2 : Int32) (x3 : Option Nat) (x4 : Int32) (x5 : Int32), k6 S x0 x1 x2 x3 x4 x5 = some (r, S1) → G K 7 S 6 [(0, vR x0), (1, vR x1), (2, vI x2), (3, vR x3), (4, vI x4), (5, vI x5)] []) : ∀ (S : St) (x0 : Option Nat) (x1 : Option Nat) (x2 : Int32) (x3 : Option Nat) (x5 : Int32), n_X1_isTaken_b73 k6 S x0 x1 x2 x3 x5 = some (r, S1) → G K 7 S 73 [(0, vR x0), (1, vR x1), (2, vI x2), (3, vR x3), (5, vI x5)] [] := by
  intro S x0 x1 x2 x3 x5 hd
  unfold n_X1_isTaken_b73 at hd
  refine g_iconst (v := 1) C dX1_isTaken_73 (by decide) ?_
  refine g_goto (tgt := 78) C dX1_isTaken_74 (by decide) ?_
  refine g_sub [0, 1, 2, 3, 4] rfl ?_
  exact w_X1_isTaken_b78 C E Q h6 _ _ _ _ _ _ _ hd
theorem w_X1_isTaken_b77 {K : KT} {r : Int32} {S1 : St} (C : GC K RX1 cX1_isTaken 7 5 []) (E : EH (kΓ K) (kHI K) (kl K)) (Q : GQ K (some (Jvm.ClassFile.FieldType.boolean)) (.inl (some (vI r))) S1) {k6 : St → Option Nat → Option Nat → Int32 → Option Nat → Int32 → Int32 → Option (Int32 × St)} (h6 : ∀ (S : St) (x0 : Option Nat) (x1 : Option Nat) (x2 : Int32) (x3 : Option Nat) (x4 : Int32) (x5 : Int32), k6 S x0 x1 x2 x3 x4 x5 = some (r, S1) → G K 7 S 6 [(0, vR x0), (1, vR x1), (2, vI x2), (3, vR x3), (4, vI x4), (5, vI x5)] []) : ∀ (S : St) (x0 : Option Nat) (x1 : Option Nat) (x2 : Int32) (x3 : Option Nat) (x5 : Int32), n_X1_isTaken_b77 k6 S x0 x1 x2 x3 x5 = some (r, S1) → G K 7 S 77 [(0, vR x0), (1, vR x1), (2, vI x2), (3, vR x3), (5, vI x5)] [] := by
  intro S x0 x1 x2 x3 x5 hd
  unfold n_X1_isTaken_b77 at hd
  refine g_iconst (v := 0) C dX1_isTaken_77 (by decide) ?_
  refine g_sub [0, 1, 2, 3, 4] rfl ?_
  exact w_X1_isTaken_b78 C E Q h6 _ _ _ _ _ _ _ hd
theorem w_X1_isTaken_b6 {K : KT} {r : Int32} {S1 : St} (C : GC K RX1 cX1_isTaken 7 5 []) (E : EH (kΓ K) (kHI K) (kl K)) (Q : GQ K (some (Jvm.ClassFile.FieldType.boolean)) (.inl (some (vI r))) S1) : ∀ (n : Nat) (S : St) (x0 : Option Nat) (x1 : Option Nat) (x2 : Int32) (x3 : Option Nat) (x4 : Int32) (x5 : Int32), n_X1_isTaken_b6 n S x0 x1 x2 x3 x4 x5 = some (r, S1) → G K 7 S 6 [(0, vR x0), (1, vR x1), (2, vI x2), (3, vR x3), (4, vI x4), (5, vI x5)] [] := by
  intro n
  induction n with
  | zero => intro S x0 x1 x2 x3 x4 x5 hd; cases hd
  | succ n ih =>
    intro S x0 x1 x2 x3 x4 x5 hd
    unfold n_X1_isTaken_b6 at hd
    refine g_iload C dX1_isTaken_6 5 rfl ?_
    refine g_aload_n C dX1_isTaken_8 rfl 0 rfl ?_
    obtain ⟨v1, hv1, hd⟩ := Option.bind_eq_some_iff.mp hd
    refine g_fld C gk_X1 (k := 0) (by decide) q385 (Or.inl rfl) dX1_isTaken_9 (gR_v hv1) ?_
    obtain ⟨hg, hd⟩ := gd_some hd
    obtain ⟨v3, S2, hc, hd⟩ := bn_some hd
    refine g_cF_v (n := 0) C (gk_J2).1 q427 q432 q430 q98 q434 (List.mem_of_getElem? (i := 1) rfl) (by decide +kernel) (by decide) (by decide) dX1_isTaken_12 (As := []) (rest := [vI x5]) rfl rfl (Nat.le_of_ble_eq_true rfl) hg (mh_J2_size E hc) ?_
    refine g_icmp_ge (tgt := 86) C dX1_isTaken_17 (by decide) hd (fun hd => ?_) (fun hd => ?_)
    · refine g_iload C dX1_isTaken_86 4 rfl ?_
      exact g_iret C Q hd dX1_isTaken_88
    · refine g_aload_n C dX1_isTaken_20 rfl 0 rfl ?_
      obtain ⟨v4, hv4, hd⟩ := Option.bind_eq_some_iff.mp hd
      refine g_fld C gk_X1 (k := 0) (by decide) q385 (Or.inl rfl) dX1_isTaken_21 (gR_v hv4) ?_
      refine g_iload C dX1_isTaken_24 5 rfl ?_
      obtain ⟨hg, hd⟩ := gd_some hd
      obtain ⟨v6, S5, hc, hd⟩ := bn_some hd
      refine g_cF_v (n := 1) C (gk_J2).1 q441 q446 q444 q98 q448 (List.mem_of_getElem? (i := 2) rfl) (by decide +kernel) (by decide) (by decide) dX1_isTaken_26 (As := [vI x5]) (rest := []) rfl rfl (Nat.le_of_ble_eq_true rfl) hg (mh_J2_get E hc) ?_
      refine g_cast C (gk_X2).1 q231 dX1_isTaken_31 hd (fun hd => ?_)
      refine g_astore (L' := [(6, vR v6), (0, vR x0), (1, vR x1), (2, vI x2), (3, vR x3), (4, vI x4), (5, vI x5)]) C dX1_isTaken_34 (by decide) rfl ?_
      refine g_iload C dX1_isTaken_36 5 rfl ?_
      refine g_if_ne (tgt := 73) C dX1_isTaken_38 (by decide) hd (fun hd => ?_) (fun hd => ?_)
      · refine g_sub [1, 2, 3, 4, 6] rfl ?_
        exact w_X1_isTaken_b73 C E Q ih _ _ _ _ _ _ hd
      · refine g_aload C dX1_isTaken_41 0 rfl ?_
        obtain ⟨v7, hv7, hd⟩ := Option.bind_eq_some_iff.mp hd
        refine g_fldN C gk_X2 (k := 8) (by decide) q253 rfl dX1_isTaken_43 (gI_v hv7) ?_
        refine g_if_ne (tgt := 77) C dX1_isTaken_46 (by decide) hd (fun hd => ?_) (fun hd => ?_)
        · refine g_sub [1, 2, 3, 4, 6] rfl ?_
          exact w_X1_isTaken_b77 C E Q ih _ _ _ _ _ _ hd
        · refine g_aload C dX1_isTaken_49 0 rfl ?_
          refine g_aload_n C dX1_isTaken_51 rfl 4 rfl ?_
          refine g_acmp_eq (tgt := 77) C dX1_isTaken_52 (by decide) hd (fun hd => ?_) (fun hd => ?_)
          · refine g_sub [1, 2, 3, 4, 6] rfl ?_
            exact w_X1_isTaken_b77 C E Q ih _ _ _ _ _ _ hd
          · refine g_aload C dX1_isTaken_55 0 rfl ?_
            obtain ⟨v8, hv8, hd⟩ := Option.bind_eq_some_iff.mp hd
            refine g_fldN C gk_X2 (k := 2) (by decide) q244 rfl dX1_isTaken_57 (gR_v hv8) ?_
            refine g_aload_n C dX1_isTaken_60 rfl 2 rfl ?_
            refine g_acmp_ne (tgt := 77) C dX1_isTaken_61 (by decide) hd (fun hd => ?_) (fun hd => ?_)
            · refine g_sub [1, 2, 3, 4, 6] rfl ?_
              exact w_X1_isTaken_b77 C E Q ih _ _ _ _ _ _ hd
            · refine g_aload C dX1_isTaken_64 0 rfl ?_
              obtain ⟨v9, hv9, hd⟩ := Option.bind_eq_some_iff.mp hd
              refine g_fldN C gk_X2 (k := 3) (by decide) q245 rfl dX1_isTaken_66 (gI_v hv9) ?_
              refine g_iload_n C dX1_isTaken_69 rfl 3 rfl ?_
              refine g_icmp_ne (tgt := 77) C dX1_isTaken_70 (by decide) hd (fun hd => ?_) (fun hd => ?_)
              · refine g_sub [1, 2, 3, 4, 6] rfl ?_
                exact w_X1_isTaken_b77 C E Q ih _ _ _ _ _ _ hd
              · refine g_sub [1, 2, 3, 4, 6] rfl ?_
                exact w_X1_isTaken_b73 C E Q ih _ _ _ _ _ _ hd
theorem w_X1_isTaken_b0m {K : KT} {r : Int32} {S1 : St} (C : GC K RX1 cX1_isTaken 7 5 []) (E : EH (kΓ K) (kHI K) (kl K)) (Q : GQ K (some (Jvm.ClassFile.FieldType.boolean)) (.inl (some (vI r))) S1) : ∀ (S : St) (x0 : Option Nat) (x1 : Option Nat) (x2 : Int32) (x3 : Option Nat), n_X1_isTaken S x0 x1 x2 x3 = some (r, S1) → G K 7 S 0 [(0, vR x0), (1, vR x1), (2, vI x2), (3, vR x3)] [] := by
  intro S x0 x1 x2 x3 hd
  unfold n_X1_isTaken at hd
  refine g_iconst (v := 0) C dX1_isTaken_0 (by decide) ?_
  refine g_istore (L' := [(4, vI (0 : Int32)), (0, vR x0), (1, vR x1), (2, vI x2), (3, vR x3)]) C dX1_isTaken_1 (by decide) rfl ?_
  refine g_iconst (v := 0) C dX1_isTaken_3 (by decide) ?_
  refine g_istore (L' := [(5, vI (0 : Int32)), (4, vI (0 : Int32)), (0, vR x0), (1, vR x1), (2, vI x2), (3, vR x3)]) C dX1_isTaken_4 (by decide) rfl ?_
  refine g_sub [2, 3, 4, 5, 1, 0] rfl ?_
  exact w_X1_isTaken_b6 C E Q FU _ _ _ _ _ _ _ hd
theorem m_X1_isTaken {Γ : GG} {HI : St → Heap → Prop} {l : Launch} (E : EH Γ HI l) {S : St} {a0 : Option Nat} {a1 : Option Nat} {a2 : Int32} {a3 : Option Nat} {r : Int32} {S1 : St} (h : n_X1_isTaken S a0 a1 a2 a3 = some (r, S1)) : MS Γ HI l yX1_isTaken cX1_isTaken 7 (some (Jvm.ClassFile.FieldType.boolean)) 5 S [vR a0, vR a1, vI a2, vR a3] (.inl (some (vI r))) S1 := by
  refine MS_of E.ntr E.hx (by decide +kernel) rfl (Nat.le_of_ble_eq_true rfl) fun K e1 e2 e3 e4 hnm C Q => ?_
  subst e1; subst e2; subst e3
  exact w_X1_isTaken_b0m C E Q S a0 a1 a2 a3 h

def n_X1_make_b44 (S : St) (x0 : Option Nat) (x2 : Int32) (x3 : Int32) (x4 : Option Nat) (y0 : Int32) : Option ((Int32 ⊕ String) × St) :=
  tbn (n_X1_possible S y0) fun _ S1 =>
  nwB S1 (cO 1 [vI 0, vI 0, vR none, vI 0, vI 0, vR none, vI 0, vI 0, vI 0]) 9 fun q3 S4 =>
  (gR S4 x0 0 0).bind fun v5 =>
  gd (grc S4 v5 8) <|
  bn (h_J2_size S4 v5) fun v7 S6 =>
  gd (q3).isSome <|
  bn (n_X2_init S6 q3 v7 x3) fun _ S8 =>
  (pR S8 q3 1 2 x4).bind fun S10 =>
  (pI .char S10 q3 1 3 x2).bind fun S11 =>
  (gR S11 x0 0 0).bind fun v12 =>
  gd (grc S11 v12 8) <|
  bn (h_J2_add S11 v12 q3) fun v14 S13 =>
  gd (grc S13 x0 0) <|
  bn (n_X1_above S13 x0 q3) fun v16 S15 =>
  gd (grc S15 x0 0) <|
  bn (n_X1_tell S15 x0 v16 (some (S15.2.2.2 1)) q3) fun _ S17 =>
  (gI S17 q3 1 0).bind fun v19 =>
  rtI Sum.inl (Jvm.ClassFile.FieldType.int) v19 S17
def n_X1_make_b43 (S : St) (x0 : Option Nat) (x2 : Int32) (x3 : Int32) (x4 : Option Nat) : Option ((Int32 ⊕ String) × St) :=
  n_X1_make_b44 S x0 x2 x3 x4 (0 : Int32)
def n_X1_make (S : St) (x0 : Option Nat) (x1 : Int32) (x2 : Int32) (x3 : Int32) : Option ((Int32 ⊕ String) × St) :=
  gd (grc S x0 0) <|
  tbn (n_X1_folderAt S x0 x1) fun v2 S1 =>
  bn (n_X1_isName S1 x2) fun v4 S3 =>
  tbn (n_X1_check S3 v4) fun _ S5 =>
  gd (grc S5 x0 0) <|
  bn (n_X1_isTaken S5 x0 v2 x2 none) fun v8 S7 =>
  if v8 = 0 then
    (gR S7 x0 0 0).bind fun v9 =>
    gd (grc S7 v9 8) <|
    bn (h_J2_size S7 v9) fun v11 S10 =>
    if (60 : Int32) ≤ v11 then
      n_X1_make_b43 S10 x0 x2 x3 v2
    else
      n_X1_make_b44 S10 x0 x2 x3 v2 (1 : Int32)
  else
    n_X1_make_b43 S7 x0 x2 x3 v2
theorem w_X1_make_b44 {K : KT} {r : (Int32 ⊕ String)} {S1 : St} (C : GC K RX1 cX1_make 6 10 []) (E : EH (kΓ K) (kHI K) (kl K)) (Q : GQ K (some (Jvm.ClassFile.FieldType.int)) (resI r) S1) : ∀ (S : St) (x0 : Option Nat) (x2 : Int32) (x3 : Int32) (x4 : Option Nat) (y0 : Int32), n_X1_make_b44 S x0 x2 x3 x4 y0 = some (r, S1) → G K 6 S 44 [(0, vR x0), (2, vI x2), (3, vI x3), (4, vR x4)] [vI y0] := by
  intro S x0 x2 x3 x4 y0 hd
  unfold n_X1_make_b44 at hd
  rcases tbn_some hd with ⟨X9, S1, hc, hz⟩ | ⟨_, S1, hc, hd⟩
  · cases hz; exact g_cS_x (n := 1) C q1162 q1163 q95 q1164 (by decide +kernel) (by decide) (by decide) dX1_make_44 (As := [vI y0]) (rest := []) rfl rfl (Nat.le_of_ble_eq_true rfl) (m_X1_possible E hc) (g_out C Q)
  refine g_cS_n (n := 1) C q1162 q1163 q95 q1164 (by decide +kernel) (by decide) (by decide) dX1_make_44 (As := [vI y0]) (rest := []) rfl rfl (Nat.le_of_ble_eq_true rfl) (m_X1_possible E hc) ?_
  refine g_new C gk_X2 (fun j hj => gdf_X2 j hj) q231 q232 q102 dX1_make_47 hd (fun q3 S4 hd => ?_)
  refine g_dup C dX1_make_50 rfl ?_
  refine g_aload_n C dX1_make_51 rfl 0 rfl ?_
  obtain ⟨v5, hv5, hd⟩ := Option.bind_eq_some_iff.mp hd
  refine g_fld C gk_X1 (k := 0) (by decide) q385 (Or.inl rfl) dX1_make_52 (gR_v hv5) ?_
  obtain ⟨hg, hd⟩ := gd_some hd
  obtain ⟨v7, S6, hc, hd⟩ := bn_some hd
  refine g_cF_v (n := 0) C (gk_J2).1 q427 q432 q430 q98 q434 (List.mem_of_getElem? (i := 1) rfl) (by decide +kernel) (by decide) (by decide) dX1_make_55 (As := []) (rest := [vR q3, vR q3]) rfl rfl (Nat.le_of_ble_eq_true rfl) hg (mh_J2_size E hc) ?_
  refine g_iload_n C dX1_make_60 rfl 2 rfl ?_
  obtain ⟨hg, hd⟩ := gd_some hd
  obtain ⟨_, S8, hc, hd⟩ := bn_some hd
  refine g_cI_n (n := 2) C q233 q234 q102 q235 rfl (by decide +kernel) (by decide) (by decide) dX1_make_61 (As := [vI v7, vI x3]) (rest := [vR q3]) rfl rfl (Nat.le_of_ble_eq_true rfl) hg (m_X2_init E hc) ?_
  refine g_astore (L' := [(5, vR q3), (0, vR x0), (2, vI x2), (3, vI x3), (4, vR x4)]) C dX1_make_64 (by decide) rfl ?_
  refine g_aload C dX1_make_66 0 rfl ?_
  refine g_aload C dX1_make_68 4 rfl ?_
  obtain ⟨S10, hS10, hd⟩ := Option.bind_eq_some_iff.mp hd
  refine g_putN C gk_X2 (k := 2) (by decide) q244 rfl rfl dX1_make_70 (fit_ref _ (Or.inl ⟨_, rfl⟩)).1 (fit_ref _ (Or.inl ⟨_, rfl⟩)).2 hS10 ?_
  refine g_aload C dX1_make_73 0 rfl ?_
  refine g_iload_n C dX1_make_75 rfl 2 rfl ?_
  obtain ⟨S11, hS11, hd⟩ := Option.bind_eq_some_iff.mp hd
  refine g_putN C gk_X2 (k := 3) (by decide) q245 rfl rfl dX1_make_76 (gfit_ok (pI_v hS11).1).1 (gfit_ok (pI_v hS11).1).2 (pI_v hS11).2 ?_
  refine g_aload_n C dX1_make_79 rfl 1 rfl ?_
  obtain ⟨v12, hv12, hd⟩ := Option.bind_eq_some_iff.mp hd
  refine g_fld C gk_X1 (k := 0) (by decide) q385 (Or.inl rfl) dX1_make_80 (gR_v hv12) ?_
  refine g_aload C dX1_make_83 0 rfl ?_
  obtain ⟨hg, hd⟩ := gd_some hd
  obtain ⟨v14, S13, hc, hd⟩ := bn_some hd
  refine g_cF_v (n := 1) C (gk_J2).1 q274 q280 q278 q98 q282 (List.mem_of_getElem? (i := 0) rfl) (by decide +kernel) (by decide) (by decide) dX1_make_85 (As := [vR q3]) (rest := []) rfl rfl (Nat.le_of_ble_eq_true rfl) hg (mh_J2_add E hc) ?_
  refine g_pop C dX1_make_90 rfl ?_
  refine g_aload_n C dX1_make_91 rfl 1 rfl ?_
  refine g_aload_n C dX1_make_92 rfl 1 rfl ?_
  refine g_aload C dX1_make_93 0 rfl ?_
  obtain ⟨hg, hd⟩ := gd_some hd
  obtain ⟨v16, S15, hc, hd⟩ := bn_some hd
  refine g_cV_v (n := 1) C (gk_X1).1 q1080 q1082 qs14 q95 q1083 (by decide +kernel) (by decide) (by decide) dX1_make_95 (As := [vR q3]) (rest := [vR x0]) rfl rfl (Nat.le_of_ble_eq_true rfl) hg (m_X1_above E hc) ?_
  refine g_getsR C 1 (fun lv => (C lv).hk.2.2.2.2.1.2.2.1) q1180 rfl dX1_make_98 ?_
  refine g_aload C dX1_make_101 0 rfl ?_
  obtain ⟨hg, hd⟩ := gd_some hd
  obtain ⟨_, S17, hc, hd⟩ := bn_some hd
  refine g_cV_n (n := 3) C (gk_X1).1 q1182 q1184 qs18 q95 q1185 (by decide +kernel) (by decide) (by decide) dX1_make_103 (As := [vR v16, vR (some (S15.2.2.2 1)), vR q3]) (rest := []) rfl rfl (Nat.le_of_ble_eq_true rfl) hg (m_X1_tell E hc) ?_
  refine g_aload C dX1_make_106 0 rfl ?_
  obtain ⟨v19, hv19, hd⟩ := Option.bind_eq_some_iff.mp hd
  refine g_fldN C gk_X2 (k := 0) (by decide) q240 rfl dX1_make_108 (gI_v hv19) ?_
  exact g_iretT C Q hd dX1_make_111
theorem w_X1_make_b43 {K : KT} {r : (Int32 ⊕ String)} {S1 : St} (C : GC K RX1 cX1_make 6 10 []) (E : EH (kΓ K) (kHI K) (kl K)) (Q : GQ K (some (Jvm.ClassFile.FieldType.int)) (resI r) S1) : ∀ (S : St) (x0 : Option Nat) (x2 : Int32) (x3 : Int32) (x4 : Option Nat), n_X1_make_b43 S x0 x2 x3 x4 = some (r, S1) → G K 6 S 43 [(0, vR x0), (2, vI x2), (3, vI x3), (4, vR x4)] [] := by
  intro S x0 x2 x3 x4 hd
  unfold n_X1_make_b43 at hd
  refine g_iconst (v := 0) C dX1_make_43 (by decide) ?_
  refine g_sub [0, 1, 2, 3] rfl ?_
  exact w_X1_make_b44 C E Q _ _ _ _ _ _ hd
theorem w_X1_make_b0m {K : KT} {r : (Int32 ⊕ String)} {S1 : St} (C : GC K RX1 cX1_make 6 10 []) (E : EH (kΓ K) (kHI K) (kl K)) (Q : GQ K (some (Jvm.ClassFile.FieldType.int)) (resI r) S1) : ∀ (S : St) (x0 : Option Nat) (x1 : Int32) (x2 : Int32) (x3 : Int32), n_X1_make S x0 x1 x2 x3 = some (r, S1) → G K 6 S 0 [(0, vR x0), (1, vI x1), (2, vI x2), (3, vI x3)] [] := by
  intro S x0 x1 x2 x3 hd
  unfold n_X1_make at hd
  refine g_aload_n C dX1_make_0 rfl 0 rfl ?_
  refine g_iload_n C dX1_make_1 rfl 1 rfl ?_
  obtain ⟨hg, hd⟩ := gd_some hd
  rcases tbn_some hd with ⟨X9, S1, hc, hz⟩ | ⟨v2, S1, hc, hd⟩
  · cases hz; exact g_cV_x (n := 1) C (gk_X1).1 q1122 q1124 qs15 q95 q1125 (by decide +kernel) (by decide) (by decide) dX1_make_2 (As := [vI x1]) (rest := []) rfl rfl (Nat.le_of_ble_eq_true rfl) hg (m_X1_folderAt E hc) (g_out C Q)
  refine g_cV_v (n := 1) C (gk_X1).1 q1122 q1124 qs15 q95 q1125 (by decide +kernel) (by decide) (by decide) dX1_make_2 (As := [vI x1]) (rest := []) rfl rfl (Nat.le_of_ble_eq_true rfl) hg (m_X1_folderAt E hc) ?_
  refine g_astore (L' := [(4, vR v2), (0, vR x0), (1, vI x1), (2, vI x2), (3, vI x3)]) C dX1_make_5 (by decide) rfl ?_
  refine g_iload_n C dX1_make_7 rfl 3 rfl ?_
  obtain ⟨v4, S3, hc, hd⟩ := bn_some hd
  refine g_cS_v (n := 1) C q1147 q1148 q95 q1149 (by decide +kernel) (by decide) (by decide) dX1_make_8 (As := [vI x2]) (rest := []) rfl rfl (Nat.le_of_ble_eq_true rfl) (m_X1_isName E hc) ?_
  rcases tbn_some hd with ⟨X9, S5, hc, hz⟩ | ⟨_, S5, hc, hd⟩
  · cases hz; exact g_cS_x (n := 1) C q1150 q1151 q95 q1152 (by decide +kernel) (by decide) (by decide) dX1_make_11 (As := [vI v4]) (rest := []) rfl rfl (Nat.le_of_ble_eq_true rfl) (m_X1_check E hc) (g_out C Q)
  refine g_cS_n (n := 1) C q1150 q1151 q95 q1152 (by decide +kernel) (by decide) (by decide) dX1_make_11 (As := [vI v4]) (rest := []) rfl rfl (Nat.le_of_ble_eq_true rfl) (m_X1_check E hc) ?_
  refine g_aload_n C dX1_make_14 rfl 1 rfl ?_
  refine g_aload C dX1_make_15 0 rfl ?_
  refine g_iload_n C dX1_make_17 rfl 3 rfl ?_
  refine g_null C dX1_make_18 ?_
  obtain ⟨hg, hd⟩ := gd_some hd
  obtain ⟨v8, S7, hc, hd⟩ := bn_some hd
  refine g_cV_v (n := 3) C (gk_X1).1 q1158 q1160 qs17 q95 q1161 (by decide +kernel) (by decide) (by decide) dX1_make_19 (As := [vR v2, vI x2, vR none]) (rest := []) rfl rfl (Nat.le_of_ble_eq_true rfl) hg (m_X1_isTaken E hc) ?_
  refine g_if_ne (tgt := 43) C dX1_make_22 (by decide) hd (fun hd => ?_) (fun hd => ?_)
  · refine g_sub [1, 3, 4, 0] rfl ?_
    exact w_X1_make_b43 C E Q _ _ _ _ _ hd
  · refine g_aload_n C dX1_make_25 rfl 1 rfl ?_
    obtain ⟨v9, hv9, hd⟩ := Option.bind_eq_some_iff.mp hd
    refine g_fld C gk_X1 (k := 0) (by decide) q385 (Or.inl rfl) dX1_make_26 (gR_v hv9) ?_
    obtain ⟨hg, hd⟩ := gd_some hd
    obtain ⟨v11, S10, hc, hd⟩ := bn_some hd
    refine g_cF_v (n := 0) C (gk_J2).1 q427 q432 q430 q98 q434 (List.mem_of_getElem? (i := 1) rfl) (by decide +kernel) (by decide) (by decide) dX1_make_29 (As := []) (rest := []) rfl rfl (Nat.le_of_ble_eq_true rfl) hg (mh_J2_size E hc) ?_
    refine g_bipush (v := 60) C dX1_make_34 (by decide) ?_
    refine g_icmp_ge (tgt := 43) C dX1_make_36 (by decide) hd (fun hd => ?_) (fun hd => ?_)
    · refine g_sub [1, 3, 4, 0] rfl ?_
      exact w_X1_make_b43 C E Q _ _ _ _ _ hd
    · refine g_iconst (v := 1) C dX1_make_39 (by decide) ?_
      refine g_goto (tgt := 44) C dX1_make_40 (by decide) ?_
      refine g_sub [1, 3, 4, 0] rfl ?_
      exact w_X1_make_b44 C E Q _ _ _ _ _ _ hd
theorem m_X1_make {Γ : GG} {HI : St → Heap → Prop} {l : Launch} (E : EH Γ HI l) {S : St} {a0 : Option Nat} {a1 : Int32} {a2 : Int32} {a3 : Int32} {r : (Int32 ⊕ String)} {S1 : St} (h : n_X1_make S a0 a1 a2 a3 = some (r, S1)) : MS Γ HI l yX1_make cX1_make 6 (some (Jvm.ClassFile.FieldType.int)) 10 S [vR a0, vI a1, vI a2, vI a3] (resI r) S1 := by
  refine MS_of E.ntr E.hx (by decide +kernel) rfl (Nat.le_of_ble_eq_true rfl) fun K e1 e2 e3 e4 hnm C Q => ?_
  subst e1; subst e2; subst e3
  exact w_X1_make_b0m C E Q S a0 a1 a2 a3 h

def n_X1_written (S : St) (x0 : Option Nat) (x1 : Option Nat) : Option (Unit × St) :=
  (gI S x1 1 4).bind fun v1 =>
  (pI .int S x1 1 4 (v1 + (1 : Int32))).bind fun S2 =>
  gd (grc S2 x0 0) <|
  bn (n_X1_above S2 x0 x1) fun v4 S3 =>
  gd (grc S3 x0 0) <|
  bn (n_X1_tell S3 x0 v4 (some (S3.2.2.2 2)) x1) fun _ S5 =>
  some ((), S5)
theorem w_X1_written_b0m {K : KT} {r : Unit} {S1 : St} (C : GC K RX1 cX1_written 2 8 []) (E : EH (kΓ K) (kHI K) (kl K)) (Q : GQ K none (.inl none) S1) : ∀ (S : St) (x0 : Option Nat) (x1 : Option Nat), n_X1_written S x0 x1 = some (r, S1) → G K 2 S 0 [(0, vR x0), (1, vR x1)] [] := by
  intro S x0 x1 hd
  unfold n_X1_written at hd
  refine g_aload_n C dX1_written_0 rfl 1 rfl ?_
  refine g_dup C dX1_written_1 rfl ?_
  obtain ⟨v1, hv1, hd⟩ := Option.bind_eq_some_iff.mp hd
  refine g_fldN C gk_X2 (k := 4) (by decide) q247 rfl dX1_written_2 (gI_v hv1) ?_
  refine g_iconst (v := 1) C dX1_written_5 (by decide) ?_
  refine g_iadd C dX1_written_6 ?_
  obtain ⟨S2, hS2, hd⟩ := Option.bind_eq_some_iff.mp hd
  refine g_putN C gk_X2 (k := 4) (by decide) q247 rfl rfl dX1_written_7 (gfit_ok (pI_v hS2).1).1 (gfit_ok (pI_v hS2).1).2 (pI_v hS2).2 ?_
  refine g_aload_n C dX1_written_10 rfl 0 rfl ?_
  refine g_aload_n C dX1_written_11 rfl 0 rfl ?_
  refine g_aload_n C dX1_written_12 rfl 1 rfl ?_
  obtain ⟨hg, hd⟩ := gd_some hd
  obtain ⟨v4, S3, hc, hd⟩ := bn_some hd
  refine g_cV_v (n := 1) C (gk_X1).1 q1080 q1082 qs14 q95 q1083 (by decide +kernel) (by decide) (by decide) dX1_written_13 (As := [vR x1]) (rest := [vR x0]) rfl rfl (Nat.le_of_ble_eq_true rfl) hg (m_X1_above E hc) ?_
  refine g_getsR C 2 (fun lv => (C lv).hk.2.2.2.2.1.2.2.2.1) q1252 rfl dX1_written_16 ?_
  refine g_aload_n C dX1_written_19 rfl 1 rfl ?_
  obtain ⟨hg, hd⟩ := gd_some hd
  obtain ⟨_, S5, hc, hd⟩ := bn_some hd
  refine g_cV_n (n := 3) C (gk_X1).1 q1182 q1184 qs18 q95 q1185 (by decide +kernel) (by decide) (by decide) dX1_written_20 (As := [vR v4, vR (some (S3.2.2.2 2)), vR x1]) (rest := []) rfl rfl (Nat.le_of_ble_eq_true rfl) hg (m_X1_tell E hc) ?_
  exact g_vret C Q hd dX1_written_23
theorem m_X1_written {Γ : GG} {HI : St → Heap → Prop} {l : Launch} (E : EH Γ HI l) {S : St} {a0 : Option Nat} {a1 : Option Nat} {r : Unit} {S1 : St} (h : n_X1_written S a0 a1 = some (r, S1)) : MS Γ HI l yX1_written cX1_written 2 none 8 S [vR a0, vR a1] (.inl none) S1 := by
  refine MS_of E.ntr E.hx (by decide +kernel) rfl (Nat.le_of_ble_eq_true rfl) fun K e1 e2 e3 e4 hnm C Q => ?_
  subst e1; subst e2; subst e3
  exact w_X1_written_b0m C E Q S a0 a1 h

def n_X1_fileAt_b22 (S : St) (x2 : Option Nat) (y0 : Int32) : Option ((Option Nat ⊕ String) × St) :=
  tbn (n_X1_need S y0) fun _ S1 =>
  some (Sum.inl x2, S1)
def n_X1_fileAt_b21 (S : St) (x2 : Option Nat) : Option ((Option Nat ⊕ String) × St) :=
  n_X1_fileAt_b22 S x2 (0 : Int32)
def n_X1_fileAt (S : St) (x0 : Option Nat) (x1 : Int32) : Option ((Option Nat ⊕ String) × St) :=
  gd (grc S x0 0) <|
  bn (n_X1_nodeAt S x0 x1) fun v2 S1 =>
  if v2 = none then
    n_X1_fileAt_b21 S1 v2
  else
    (gI S1 v2 1 1).bind fun v3 =>
    if v3 = 0 then
      n_X1_fileAt_b22 S1 v2 (1 : Int32)
    else
      n_X1_fileAt_b21 S1 v2
theorem w_X1_fileAt_b22 {K : KT} {r : (Option Nat ⊕ String)} {S1 : St} (C : GC K RX1 cX1_fileAt 3 9 []) (E : EH (kΓ K) (kHI K) (kl K)) (Q : GQ K (some (Jvm.ClassFile.FieldType.object "SearchKeeper$Node")) (resR r) S1) : ∀ (S : St) (x2 : Option Nat) (y0 : Int32), n_X1_fileAt_b22 S x2 y0 = some (r, S1) → G K 3 S 22 [(2, vR x2)] [vI y0] := by
  intro S x2 y0 hd
  unfold n_X1_fileAt_b22 at hd
  rcases tbn_some hd with ⟨X9, S1, hc, hz⟩ | ⟨_, S1, hc, hd⟩
  · cases hz; exact g_cS_x (n := 1) C q1133 q1134 q95 q1135 (by decide +kernel) (by decide) (by decide) dX1_fileAt_22 (As := [vI y0]) (rest := []) rfl rfl (Nat.le_of_ble_eq_true rfl) (m_X1_need E hc) (g_out C Q)
  refine g_cS_n (n := 1) C q1133 q1134 q95 q1135 (by decide +kernel) (by decide) (by decide) dX1_fileAt_22 (As := [vI y0]) (rest := []) rfl rfl (Nat.le_of_ble_eq_true rfl) (m_X1_need E hc) ?_
  refine g_aload_n C dX1_fileAt_25 rfl 0 rfl ?_
  exact g_aretT C Q (Or.inl ⟨_, rfl⟩) hd dX1_fileAt_26
theorem w_X1_fileAt_b21 {K : KT} {r : (Option Nat ⊕ String)} {S1 : St} (C : GC K RX1 cX1_fileAt 3 9 []) (E : EH (kΓ K) (kHI K) (kl K)) (Q : GQ K (some (Jvm.ClassFile.FieldType.object "SearchKeeper$Node")) (resR r) S1) : ∀ (S : St) (x2 : Option Nat), n_X1_fileAt_b21 S x2 = some (r, S1) → G K 3 S 21 [(2, vR x2)] [] := by
  intro S x2 hd
  unfold n_X1_fileAt_b21 at hd
  refine g_iconst (v := 0) C dX1_fileAt_21 (by decide) ?_
  refine g_sub [0] rfl ?_
  exact w_X1_fileAt_b22 C E Q _ _ _ hd
theorem w_X1_fileAt_b0m {K : KT} {r : (Option Nat ⊕ String)} {S1 : St} (C : GC K RX1 cX1_fileAt 3 9 []) (E : EH (kΓ K) (kHI K) (kl K)) (Q : GQ K (some (Jvm.ClassFile.FieldType.object "SearchKeeper$Node")) (resR r) S1) : ∀ (S : St) (x0 : Option Nat) (x1 : Int32), n_X1_fileAt S x0 x1 = some (r, S1) → G K 3 S 0 [(0, vR x0), (1, vI x1)] [] := by
  intro S x0 x1 hd
  unfold n_X1_fileAt at hd
  refine g_aload_n C dX1_fileAt_0 rfl 0 rfl ?_
  refine g_iload_n C dX1_fileAt_1 rfl 1 rfl ?_
  obtain ⟨hg, hd⟩ := gd_some hd
  obtain ⟨v2, S1, hc, hd⟩ := bn_some hd
  refine g_cV_v (n := 1) C (gk_X1).1 q1126 q1128 qs16 q95 q1129 (by decide +kernel) (by decide) (by decide) dX1_fileAt_2 (As := [vI x1]) (rest := []) rfl rfl (Nat.le_of_ble_eq_true rfl) hg (m_X1_nodeAt E hc) ?_
  refine g_astore_n (L' := [(2, vR v2), (0, vR x0), (1, vI x1)]) C dX1_fileAt_5 rfl (by decide) rfl ?_
  refine g_aload_n C dX1_fileAt_6 rfl 0 rfl ?_
  refine g_ifnull (tgt := 21) C dX1_fileAt_7 (by decide) hd (fun hd => ?_) (fun hd => ?_)
  · refine g_sub [0] rfl ?_
    exact w_X1_fileAt_b21 C E Q _ _ hd
  · refine g_aload_n C dX1_fileAt_10 rfl 0 rfl ?_
    obtain ⟨v3, hv3, hd⟩ := Option.bind_eq_some_iff.mp hd
    refine g_fldN C gk_X2 (k := 1) (by decide) q242 rfl dX1_fileAt_11 (gI_v hv3) ?_
    refine g_if_ne (tgt := 21) C dX1_fileAt_14 (by decide) hd (fun hd => ?_) (fun hd => ?_)
    · refine g_sub [0] rfl ?_
      exact w_X1_fileAt_b21 C E Q _ _ hd
    · refine g_iconst (v := 1) C dX1_fileAt_17 (by decide) ?_
      refine g_goto (tgt := 22) C dX1_fileAt_18 (by decide) ?_
      refine g_sub [0] rfl ?_
      exact w_X1_fileAt_b22 C E Q _ _ _ hd
theorem m_X1_fileAt {Γ : GG} {HI : St → Heap → Prop} {l : Launch} (E : EH Γ HI l) {S : St} {a0 : Option Nat} {a1 : Int32} {r : (Option Nat ⊕ String)} {S1 : St} (h : n_X1_fileAt S a0 a1 = some (r, S1)) : MS Γ HI l yX1_fileAt cX1_fileAt 3 (some (Jvm.ClassFile.FieldType.object "SearchKeeper$Node")) 9 S [vR a0, vI a1] (resR r) S1 := by
  refine MS_of E.ntr E.hx (by decide +kernel) rfl (Nat.le_of_ble_eq_true rfl) fun K e1 e2 e3 e4 hnm C Q => ?_
  subst e1; subst e2; subst e3
  exact w_X1_fileAt_b0m C E Q S a0 a1 h

def n_X1_isWord (S : St) (x0 : Int32) : Option (Int32 × St) :=
  bn (n_X1_isIn S x0 (0 : Int32) (99 : Int32)) fun v2 S1 =>
  rtI id (Jvm.ClassFile.FieldType.boolean) v2 S1
theorem w_X1_isWord_b0m {K : KT} {r : Int32} {S1 : St} (C : GC K RX1 cX1_isWord 1 3 []) (E : EH (kΓ K) (kHI K) (kl K)) (Q : GQ K (some (Jvm.ClassFile.FieldType.boolean)) (.inl (some (vI r))) S1) : ∀ (S : St) (x0 : Int32), n_X1_isWord S x0 = some (r, S1) → G K 1 S 0 [(0, vI x0)] [] := by
  intro S x0 hd
  unfold n_X1_isWord at hd
  refine g_iload_n C dX1_isWord_0 rfl 0 rfl ?_
  refine g_iconst (v := 0) C dX1_isWord_1 (by decide) ?_
  refine g_bipush (v := 99) C dX1_isWord_2 (by decide) ?_
  obtain ⟨v2, S1, hc, hd⟩ := bn_some hd
  refine g_cS_v (n := 3) C q1130 q1131 q95 q1132 (by decide +kernel) (by decide) (by decide) dX1_isWord_4 (As := [vI x0, vI (0 : Int32), vI (99 : Int32)]) (rest := []) rfl rfl (Nat.le_of_ble_eq_true rfl) (m_X1_isIn E hc) ?_
  exact g_iret C Q hd dX1_isWord_7
theorem m_X1_isWord {Γ : GG} {HI : St → Heap → Prop} {l : Launch} (E : EH Γ HI l) {S : St} {a0 : Int32} {r : Int32} {S1 : St} (h : n_X1_isWord S a0 = some (r, S1)) : MS Γ HI l yX1_isWord cX1_isWord 1 (some (Jvm.ClassFile.FieldType.boolean)) 3 S [vI a0] (.inl (some (vI r))) S1 := by
  refine MS_of E.ntr E.hx (by decide +kernel) rfl (Nat.le_of_ble_eq_true rfl) fun K e1 e2 e3 e4 hnm C Q => ?_
  subst e1; subst e2; subst e3
  exact w_X1_isWord_b0m C E Q S a0 h

def n_X1_write_b59 (S : St) (x0 : Option Nat) (x2 : Int32) (x3 : Option Nat) (y0 : Int32) : Option ((Int32 ⊕ String) × St) :=
  tbn (n_X1_possible S y0) fun _ S1 =>
  (gR S1 x3 1 5).bind fun v3 =>
  bn (n_J23_valueOf S1 x2) fun v5 S4 =>
  gd (grc S4 v3 8) <|
  bn (h_J2_add S4 v3 v5) fun v7 S6 =>
  gd (grc S6 x0 0) <|
  bn (n_X1_written S6 x0 x3) fun _ S8 =>
  (gI S8 x3 1 4).bind fun v10 =>
  rtI Sum.inl (Jvm.ClassFile.FieldType.int) v10 S8
def n_X1_write_b58 (S : St) (x0 : Option Nat) (x2 : Int32) (x3 : Option Nat) : Option ((Int32 ⊕ String) × St) :=
  n_X1_write_b59 S x0 x2 x3 (0 : Int32)
def n_X1_write_b30 (S : St) (x0 : Option Nat) (x2 : Int32) (x3 : Option Nat) (y0 : Int32) : Option ((Int32 ⊕ String) × St) :=
  tbn (n_X1_check S y0) fun _ S1 =>
  (gI S1 x3 1 6).bind fun v3 =>
  if v3 = 0 then
    (gR S1 x3 1 5).bind fun v4 =>
    gd (grc S1 v4 8) <|
    bn (h_J2_size S1 v4) fun v6 S5 =>
    if (20 : Int32) ≤ v6 then
      n_X1_write_b58 S5 x0 x2 x3
    else
      n_X1_write_b59 S5 x0 x2 x3 (1 : Int32)
  else
    n_X1_write_b58 S1 x0 x2 x3
def n_X1_write_b25 (S : St) (x0 : Option Nat) (x2 : Int32) (x3 : Option Nat) : Option ((Int32 ⊕ String) × St) :=
  n_X1_write_b30 S x0 x2 x3 (1 : Int32)
def n_X1_write (S : St) (x0 : Option Nat) (x1 : Int32) (x2 : Int32) : Option ((Int32 ⊕ String) × St) :=
  gd (grc S x0 0) <|
  tbn (n_X1_fileAt S x0 x1) fun v2 S1 =>
  bn (n_X1_isWord S1 x2) fun v4 S3 =>
  if v4 = 0 then
    if x2 = (-2 : Int32) then
      n_X1_write_b25 S3 x0 x2 v2
    else
      if x2 = (-3 : Int32) then
        n_X1_write_b25 S3 x0 x2 v2
      else
        n_X1_write_b30 S3 x0 x2 v2 (0 : Int32)
  else
    n_X1_write_b25 S3 x0 x2 v2
theorem w_X1_write_b59 {K : KT} {r : (Int32 ⊕ String)} {S1 : St} (C : GC K RX1 cX1_write 4 10 []) (E : EH (kΓ K) (kHI K) (kl K)) (Q : GQ K (some (Jvm.ClassFile.FieldType.int)) (resI r) S1) : ∀ (S : St) (x0 : Option Nat) (x2 : Int32) (x3 : Option Nat) (y0 : Int32), n_X1_write_b59 S x0 x2 x3 y0 = some (r, S1) → G K 4 S 59 [(0, vR x0), (2, vI x2), (3, vR x3)] [vI y0] := by
  intro S x0 x2 x3 y0 hd
  unfold n_X1_write_b59 at hd
  rcases tbn_some hd with ⟨X9, S1, hc, hz⟩ | ⟨_, S1, hc, hd⟩
  · cases hz; exact g_cS_x (n := 1) C q1162 q1163 q95 q1164 (by decide +kernel) (by decide) (by decide) dX1_write_59 (As := [vI y0]) (rest := []) rfl rfl (Nat.le_of_ble_eq_true rfl) (m_X1_possible E hc) (g_out C Q)
  refine g_cS_n (n := 1) C q1162 q1163 q95 q1164 (by decide +kernel) (by decide) (by decide) dX1_write_59 (As := [vI y0]) (rest := []) rfl rfl (Nat.le_of_ble_eq_true rfl) (m_X1_possible E hc) ?_
  refine g_aload_n C dX1_write_62 rfl 2 rfl ?_
  obtain ⟨v3, hv3, hd⟩ := Option.bind_eq_some_iff.mp hd
  refine g_fldN C gk_X2 (k := 5) (by decide) q249 rfl dX1_write_63 (gR_v hv3) ?_
  refine g_iload_n C dX1_write_66 rfl 1 rfl ?_
  obtain ⟨v5, S4, hc, hd⟩ := bn_some hd
  refine g_cS_v (n := 1) C q1228 q1229 q122 q1230 (by decide +kernel) (by decide) (by decide) dX1_write_67 (As := [vI x2]) (rest := [vR v3]) rfl rfl (Nat.le_of_ble_eq_true rfl) (m_J23_valueOf E.lo hc) ?_
  obtain ⟨hg, hd⟩ := gd_some hd
  obtain ⟨v7, S6, hc, hd⟩ := bn_some hd
  refine g_cF_v (n := 1) C (gk_J2).1 q274 q280 q278 q98 q282 (List.mem_of_getElem? (i := 0) rfl) (by decide +kernel) (by decide) (by decide) dX1_write_70 (As := [vR v5]) (rest := []) rfl rfl (Nat.le_of_ble_eq_true rfl) hg (mh_J2_add E hc) ?_
  refine g_pop C dX1_write_75 rfl ?_
  refine g_aload_n C dX1_write_76 rfl 0 rfl ?_
  refine g_aload_n C dX1_write_77 rfl 2 rfl ?_
  obtain ⟨hg, hd⟩ := gd_some hd
  obtain ⟨_, S8, hc, hd⟩ := bn_some hd
  refine g_cV_n (n := 1) C (gk_X1).1 q1248 q1250 qs20 q95 q1251 (by decide +kernel) (by decide) (by decide) dX1_write_78 (As := [vR x3]) (rest := []) rfl rfl (Nat.le_of_ble_eq_true rfl) hg (m_X1_written E hc) ?_
  refine g_aload_n C dX1_write_81 rfl 2 rfl ?_
  obtain ⟨v10, hv10, hd⟩ := Option.bind_eq_some_iff.mp hd
  refine g_fldN C gk_X2 (k := 4) (by decide) q247 rfl dX1_write_82 (gI_v hv10) ?_
  exact g_iretT C Q hd dX1_write_85
theorem w_X1_write_b58 {K : KT} {r : (Int32 ⊕ String)} {S1 : St} (C : GC K RX1 cX1_write 4 10 []) (E : EH (kΓ K) (kHI K) (kl K)) (Q : GQ K (some (Jvm.ClassFile.FieldType.int)) (resI r) S1) : ∀ (S : St) (x0 : Option Nat) (x2 : Int32) (x3 : Option Nat), n_X1_write_b58 S x0 x2 x3 = some (r, S1) → G K 4 S 58 [(0, vR x0), (2, vI x2), (3, vR x3)] [] := by
  intro S x0 x2 x3 hd
  unfold n_X1_write_b58 at hd
  refine g_iconst (v := 0) C dX1_write_58 (by decide) ?_
  refine g_sub [0, 1, 2] rfl ?_
  exact w_X1_write_b59 C E Q _ _ _ _ _ hd
theorem w_X1_write_b30 {K : KT} {r : (Int32 ⊕ String)} {S1 : St} (C : GC K RX1 cX1_write 4 10 []) (E : EH (kΓ K) (kHI K) (kl K)) (Q : GQ K (some (Jvm.ClassFile.FieldType.int)) (resI r) S1) : ∀ (S : St) (x0 : Option Nat) (x2 : Int32) (x3 : Option Nat) (y0 : Int32), n_X1_write_b30 S x0 x2 x3 y0 = some (r, S1) → G K 4 S 30 [(0, vR x0), (2, vI x2), (3, vR x3)] [vI y0] := by
  intro S x0 x2 x3 y0 hd
  unfold n_X1_write_b30 at hd
  rcases tbn_some hd with ⟨X9, S1, hc, hz⟩ | ⟨_, S1, hc, hd⟩
  · cases hz; exact g_cS_x (n := 1) C q1150 q1151 q95 q1152 (by decide +kernel) (by decide) (by decide) dX1_write_30 (As := [vI y0]) (rest := []) rfl rfl (Nat.le_of_ble_eq_true rfl) (m_X1_check E hc) (g_out C Q)
  refine g_cS_n (n := 1) C q1150 q1151 q95 q1152 (by decide +kernel) (by decide) (by decide) dX1_write_30 (As := [vI y0]) (rest := []) rfl rfl (Nat.le_of_ble_eq_true rfl) (m_X1_check E hc) ?_
  refine g_aload_n C dX1_write_33 rfl 2 rfl ?_
  obtain ⟨v3, hv3, hd⟩ := Option.bind_eq_some_iff.mp hd
  refine g_fldN C gk_X2 (k := 6) (by decide) q250 rfl dX1_write_34 (gI_v hv3) ?_
  refine g_if_ne (tgt := 58) C dX1_write_37 (by decide) hd (fun hd => ?_) (fun hd => ?_)
  · refine g_sub [0, 1, 2] rfl ?_
    exact w_X1_write_b58 C E Q _ _ _ _ hd
  · refine g_aload_n C dX1_write_40 rfl 2 rfl ?_
    obtain ⟨v4, hv4, hd⟩ := Option.bind_eq_some_iff.mp hd
    refine g_fldN C gk_X2 (k := 5) (by decide) q249 rfl dX1_write_41 (gR_v hv4) ?_
    obtain ⟨hg, hd⟩ := gd_some hd
    obtain ⟨v6, S5, hc, hd⟩ := bn_some hd
    refine g_cF_v (n := 0) C (gk_J2).1 q427 q432 q430 q98 q434 (List.mem_of_getElem? (i := 1) rfl) (by decide +kernel) (by decide) (by decide) dX1_write_44 (As := []) (rest := []) rfl rfl (Nat.le_of_ble_eq_true rfl) hg (mh_J2_size E hc) ?_
    refine g_bipush (v := 20) C dX1_write_49 (by decide) ?_
    refine g_icmp_ge (tgt := 58) C dX1_write_51 (by decide) hd (fun hd => ?_) (fun hd => ?_)
    · refine g_sub [0, 1, 2] rfl ?_
      exact w_X1_write_b58 C E Q _ _ _ _ hd
    · refine g_iconst (v := 1) C dX1_write_54 (by decide) ?_
      refine g_goto (tgt := 59) C dX1_write_55 (by decide) ?_
      refine g_sub [0, 1, 2] rfl ?_
      exact w_X1_write_b59 C E Q _ _ _ _ _ hd
theorem w_X1_write_b25 {K : KT} {r : (Int32 ⊕ String)} {S1 : St} (C : GC K RX1 cX1_write 4 10 []) (E : EH (kΓ K) (kHI K) (kl K)) (Q : GQ K (some (Jvm.ClassFile.FieldType.int)) (resI r) S1) : ∀ (S : St) (x0 : Option Nat) (x2 : Int32) (x3 : Option Nat), n_X1_write_b25 S x0 x2 x3 = some (r, S1) → G K 4 S 25 [(0, vR x0), (2, vI x2), (3, vR x3)] [] := by
  intro S x0 x2 x3 hd
  unfold n_X1_write_b25 at hd
  refine g_iconst (v := 1) C dX1_write_25 (by decide) ?_
  refine g_goto (tgt := 30) C dX1_write_26 (by decide) ?_
  refine g_sub [0, 1, 2] rfl ?_
  exact w_X1_write_b30 C E Q _ _ _ _ _ hd
theorem w_X1_write_b0m {K : KT} {r : (Int32 ⊕ String)} {S1 : St} (C : GC K RX1 cX1_write 4 10 []) (E : EH (kΓ K) (kHI K) (kl K)) (Q : GQ K (some (Jvm.ClassFile.FieldType.int)) (resI r) S1) : ∀ (S : St) (x0 : Option Nat) (x1 : Int32) (x2 : Int32), n_X1_write S x0 x1 x2 = some (r, S1) → G K 4 S 0 [(0, vR x0), (1, vI x1), (2, vI x2)] [] := by
  intro S x0 x1 x2 hd
  unfold n_X1_write at hd
  refine g_aload_n C dX1_write_0 rfl 0 rfl ?_
  refine g_iload_n C dX1_write_1 rfl 1 rfl ?_
  obtain ⟨hg, hd⟩ := gd_some hd
  rcases tbn_some hd with ⟨X9, S1, hc, hz⟩ | ⟨v2, S1, hc, hd⟩
  · cases hz; exact g_cV_x (n := 1) C (gk_X1).1 q1221 q1223 qs19 q95 q1224 (by decide +kernel) (by decide) (by decide) dX1_write_2 (As := [vI x1]) (rest := []) rfl rfl (Nat.le_of_ble_eq_true rfl) hg (m_X1_fileAt E hc) (g_out C Q)
  refine g_cV_v (n := 1) C (gk_X1).1 q1221 q1223 qs19 q95 q1224 (by decide +kernel) (by decide) (by decide) dX1_write_2 (As := [vI x1]) (rest := []) rfl rfl (Nat.le_of_ble_eq_true rfl) hg (m_X1_fileAt E hc) ?_
  refine g_astore_n (L' := [(3, vR v2), (0, vR x0), (1, vI x1), (2, vI x2)]) C dX1_write_5 rfl (by decide) rfl ?_
  refine g_iload_n C dX1_write_6 rfl 3 rfl ?_
  obtain ⟨v4, S3, hc, hd⟩ := bn_some hd
  refine g_cS_v (n := 1) C q1225 q1226 q95 q1227 (by decide +kernel) (by decide) (by decide) dX1_write_7 (As := [vI x2]) (rest := []) rfl rfl (Nat.le_of_ble_eq_true rfl) (m_X1_isWord E hc) ?_
  refine g_if_ne (tgt := 25) C dX1_write_10 (by decide) hd (fun hd => ?_) (fun hd => ?_)
  · refine g_sub [1, 3, 0] rfl ?_
    exact w_X1_write_b25 C E Q _ _ _ _ hd
  · refine g_iload_n C dX1_write_13 rfl 3 rfl ?_
    refine g_bipush (v := (-2)) C dX1_write_14 (by decide) ?_
    refine g_icmp_eq (tgt := 25) C dX1_write_16 (by decide) hd (fun hd => ?_) (fun hd => ?_)
    · refine g_sub [1, 3, 0] rfl ?_
      exact w_X1_write_b25 C E Q _ _ _ _ hd
    · refine g_iload_n C dX1_write_19 rfl 3 rfl ?_
      refine g_bipush (v := (-3)) C dX1_write_20 (by decide) ?_
      refine g_icmp_ne (tgt := 29) C dX1_write_22 (by decide) hd (fun hd => ?_) (fun hd => ?_)
      · refine g_iconst (v := 0) C dX1_write_29 (by decide) ?_
        refine g_sub [1, 3, 0] rfl ?_
        exact w_X1_write_b30 C E Q _ _ _ _ _ hd
      · refine g_sub [1, 3, 0] rfl ?_
        exact w_X1_write_b25 C E Q _ _ _ _ hd
theorem m_X1_write {Γ : GG} {HI : St → Heap → Prop} {l : Launch} (E : EH Γ HI l) {S : St} {a0 : Option Nat} {a1 : Int32} {a2 : Int32} {r : (Int32 ⊕ String)} {S1 : St} (h : n_X1_write S a0 a1 a2 = some (r, S1)) : MS Γ HI l yX1_write cX1_write 4 (some (Jvm.ClassFile.FieldType.int)) 10 S [vR a0, vI a1, vI a2] (resI r) S1 := by
  refine MS_of E.ntr E.hx (by decide +kernel) rfl (Nat.le_of_ble_eq_true rfl) fun K e1 e2 e3 e4 hnm C Q => ?_
  subst e1; subst e2; subst e3
  exact w_X1_write_b0m C E Q S a0 a1 a2 h

def n_X1_empty_b18 (S : St) (x0 : Option Nat) (x2 : Option Nat) (y0 : Int32) : Option ((Int32 ⊕ String) × St) :=
  tbn (n_X1_possible S y0) fun _ S1 =>
  (gR S1 x2 1 5).bind fun v3 =>
  gd (grc S1 v3 8) <|
  bn (h_J2_size S1 v3) fun v5 S4 =>
  (gR S4 x2 1 5).bind fun v6 =>
  gd (grc S4 v6 8) <|
  bn (h_J2_clear S4 v6) fun _ S7 =>
  gd (grc S7 x0 0) <|
  bn (n_X1_written S7 x0 x2) fun _ S9 =>
  rtI Sum.inl (Jvm.ClassFile.FieldType.int) v5 S9
def n_X1_empty (S : St) (x0 : Option Nat) (x1 : Int32) : Option ((Int32 ⊕ String) × St) :=
  gd (grc S x0 0) <|
  tbn (n_X1_fileAt S x0 x1) fun v2 S1 =>
  (gI S1 v2 1 6).bind fun v3 =>
  if v3 = 0 then
    n_X1_empty_b18 S1 x0 v2 (1 : Int32)
  else
    n_X1_empty_b18 S1 x0 v2 (0 : Int32)
theorem w_X1_empty_b18 {K : KT} {r : (Int32 ⊕ String)} {S1 : St} (C : GC K RX1 cX1_empty 4 10 []) (E : EH (kΓ K) (kHI K) (kl K)) (Q : GQ K (some (Jvm.ClassFile.FieldType.int)) (resI r) S1) : ∀ (S : St) (x0 : Option Nat) (x2 : Option Nat) (y0 : Int32), n_X1_empty_b18 S x0 x2 y0 = some (r, S1) → G K 4 S 18 [(0, vR x0), (2, vR x2)] [vI y0] := by
  intro S x0 x2 y0 hd
  unfold n_X1_empty_b18 at hd
  rcases tbn_some hd with ⟨X9, S1, hc, hz⟩ | ⟨_, S1, hc, hd⟩
  · cases hz; exact g_cS_x (n := 1) C q1162 q1163 q95 q1164 (by decide +kernel) (by decide) (by decide) dX1_empty_18 (As := [vI y0]) (rest := []) rfl rfl (Nat.le_of_ble_eq_true rfl) (m_X1_possible E hc) (g_out C Q)
  refine g_cS_n (n := 1) C q1162 q1163 q95 q1164 (by decide +kernel) (by decide) (by decide) dX1_empty_18 (As := [vI y0]) (rest := []) rfl rfl (Nat.le_of_ble_eq_true rfl) (m_X1_possible E hc) ?_
  refine g_aload_n C dX1_empty_21 rfl 1 rfl ?_
  obtain ⟨v3, hv3, hd⟩ := Option.bind_eq_some_iff.mp hd
  refine g_fldN C gk_X2 (k := 5) (by decide) q249 rfl dX1_empty_22 (gR_v hv3) ?_
  obtain ⟨hg, hd⟩ := gd_some hd
  obtain ⟨v5, S4, hc, hd⟩ := bn_some hd
  refine g_cF_v (n := 0) C (gk_J2).1 q427 q432 q430 q98 q434 (List.mem_of_getElem? (i := 1) rfl) (by decide +kernel) (by decide) (by decide) dX1_empty_25 (As := []) (rest := []) rfl rfl (Nat.le_of_ble_eq_true rfl) hg (mh_J2_size E hc) ?_
  refine g_istore_n (L' := [(3, vI v5), (0, vR x0), (2, vR x2)]) C dX1_empty_30 rfl (by decide) rfl ?_
  refine g_aload_n C dX1_empty_31 rfl 2 rfl ?_
  obtain ⟨v6, hv6, hd⟩ := Option.bind_eq_some_iff.mp hd
  refine g_fldN C gk_X2 (k := 5) (by decide) q249 rfl dX1_empty_32 (gR_v hv6) ?_
  obtain ⟨hg, hd⟩ := gd_some hd
  obtain ⟨_, S7, hc, hd⟩ := bn_some hd
  refine g_cF_n (n := 0) C (gk_J2).1 q1262 q1267 q1265 q98 q1269 (List.mem_of_getElem? (i := 4) rfl) (by decide +kernel) (by decide) (by decide) dX1_empty_35 (As := []) (rest := []) rfl rfl (Nat.le_of_ble_eq_true rfl) hg (mh_J2_clear E hc) ?_
  refine g_aload_n C dX1_empty_40 rfl 1 rfl ?_
  refine g_aload_n C dX1_empty_41 rfl 2 rfl ?_
  obtain ⟨hg, hd⟩ := gd_some hd
  obtain ⟨_, S9, hc, hd⟩ := bn_some hd
  refine g_cV_n (n := 1) C (gk_X1).1 q1248 q1250 qs20 q95 q1251 (by decide +kernel) (by decide) (by decide) dX1_empty_42 (As := [vR x2]) (rest := []) rfl rfl (Nat.le_of_ble_eq_true rfl) hg (m_X1_written E hc) ?_
  refine g_iload_n C dX1_empty_45 rfl 0 rfl ?_
  exact g_iretT C Q hd dX1_empty_46
theorem w_X1_empty_b0m {K : KT} {r : (Int32 ⊕ String)} {S1 : St} (C : GC K RX1 cX1_empty 4 10 []) (E : EH (kΓ K) (kHI K) (kl K)) (Q : GQ K (some (Jvm.ClassFile.FieldType.int)) (resI r) S1) : ∀ (S : St) (x0 : Option Nat) (x1 : Int32), n_X1_empty S x0 x1 = some (r, S1) → G K 4 S 0 [(0, vR x0), (1, vI x1)] [] := by
  intro S x0 x1 hd
  unfold n_X1_empty at hd
  refine g_aload_n C dX1_empty_0 rfl 0 rfl ?_
  refine g_iload_n C dX1_empty_1 rfl 1 rfl ?_
  obtain ⟨hg, hd⟩ := gd_some hd
  rcases tbn_some hd with ⟨X9, S1, hc, hz⟩ | ⟨v2, S1, hc, hd⟩
  · cases hz; exact g_cV_x (n := 1) C (gk_X1).1 q1221 q1223 qs19 q95 q1224 (by decide +kernel) (by decide) (by decide) dX1_empty_2 (As := [vI x1]) (rest := []) rfl rfl (Nat.le_of_ble_eq_true rfl) hg (m_X1_fileAt E hc) (g_out C Q)
  refine g_cV_v (n := 1) C (gk_X1).1 q1221 q1223 qs19 q95 q1224 (by decide +kernel) (by decide) (by decide) dX1_empty_2 (As := [vI x1]) (rest := []) rfl rfl (Nat.le_of_ble_eq_true rfl) hg (m_X1_fileAt E hc) ?_
  refine g_astore_n (L' := [(2, vR v2), (0, vR x0), (1, vI x1)]) C dX1_empty_5 rfl (by decide) rfl ?_
  refine g_aload_n C dX1_empty_6 rfl 0 rfl ?_
  obtain ⟨v3, hv3, hd⟩ := Option.bind_eq_some_iff.mp hd
  refine g_fldN C gk_X2 (k := 6) (by decide) q250 rfl dX1_empty_7 (gI_v hv3) ?_
  refine g_if_ne (tgt := 17) C dX1_empty_10 (by decide) hd (fun hd => ?_) (fun hd => ?_)
  · refine g_iconst (v := 0) C dX1_empty_17 (by decide) ?_
    refine g_sub [1, 0] rfl ?_
    exact w_X1_empty_b18 C E Q _ _ _ _ hd
  · refine g_iconst (v := 1) C dX1_empty_13 (by decide) ?_
    refine g_goto (tgt := 18) C dX1_empty_14 (by decide) ?_
    refine g_sub [1, 0] rfl ?_
    exact w_X1_empty_b18 C E Q _ _ _ _ hd
theorem m_X1_empty {Γ : GG} {HI : St → Heap → Prop} {l : Launch} (E : EH Γ HI l) {S : St} {a0 : Option Nat} {a1 : Int32} {r : (Int32 ⊕ String)} {S1 : St} (h : n_X1_empty S a0 a1 = some (r, S1)) : MS Γ HI l yX1_empty cX1_empty 4 (some (Jvm.ClassFile.FieldType.int)) 10 S [vR a0, vI a1] (resI r) S1 := by
  refine MS_of E.ntr E.hx (by decide +kernel) rfl (Nat.le_of_ble_eq_true rfl) fun K e1 e2 e3 e4 hnm C Q => ?_
  subst e1; subst e2; subst e3
  exact w_X1_empty_b0m C E Q S a0 a1 h

