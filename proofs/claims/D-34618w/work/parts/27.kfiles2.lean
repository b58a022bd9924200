/-! the keeper: move, remove, lock, people, mayRead, nodes -/
def n_X6_hasAll_b19 (S : St) : Option (Int32 × St) :=
  rtI id (Jvm.ClassFile.FieldType.boolean) (1 : Int32) S
def n_X6_hasAll (S : St) (x0 : Option Nat) (x1 : Option Nat) : Option (Int32 × St) :=
  (gR S x0 4 0).bind fun v1 =>
  if x1 = v1 then
    n_X6_hasAll_b19 S
  else
    (gR S x0 4 0).bind fun v2 =>
    gd (grc S x1 1) <|
    bn (n_X2_isBelow S x1 v2) fun v4 S3 =>
    if v4 = 0 then
      rtI id (Jvm.ClassFile.FieldType.boolean) (0 : Int32) S3
    else
      n_X6_hasAll_b19 S3
theorem w_X6_hasAll_b19 {K : KT} {r : Int32} {S1 : St} (C : GC K RX6 cX6_hasAll 2 3 []) (E : EH (kΓ K) (kHI K) (kl K)) (Q : GQ K (some (Jvm.ClassFile.FieldType.boolean)) (.inl (some (vI r))) S1) : ∀ (S : St), n_X6_hasAll_b19 S = some (r, S1) → G K 2 S 19 [] [] := by
  intro S hd
  unfold n_X6_hasAll_b19 at hd
  refine g_iconst (v := 1) C dX6_hasAll_19 (by decide) ?_
  refine g_goto (tgt := 24) C dX6_hasAll_20 (by decide) ?_
  exact g_iret C Q hd dX6_hasAll_24
theorem w_X6_hasAll_b0m {K : KT} {r : Int32} {S1 : St} (C : GC K RX6 cX6_hasAll 2 3 []) (E : EH (kΓ K) (kHI K) (kl K)) (Q : GQ K (some (Jvm.ClassFile.FieldType.boolean)) (.inl (some (vI r))) S1) : ∀ (S : St) (x0 : Option Nat) (x1 : Option Nat), n_X6_hasAll S x0 x1 = some (r, S1) → G K 2 S 0 [(0, vR x0), (1, vR x1)] [] := by
  intro S x0 x1 hd
  unfold n_X6_hasAll at hd
  refine g_aload_n C dX6_hasAll_0 rfl 1 rfl ?_
  refine g_aload_n C dX6_hasAll_1 rfl 0 rfl ?_
  obtain ⟨v1, hv1, hd⟩ := Option.bind_eq_some_iff.mp hd
  refine g_fld C gk_X6 (k := 0) (by decide) q1436 (Or.inl rfl) dX6_hasAll_2 (gR_v hv1) ?_
  refine g_acmp_eq (tgt := 19) C dX6_hasAll_5 (by decide) hd (fun hd => ?_) (fun hd => ?_)
  · refine g_sub [] rfl ?_
    exact w_X6_hasAll_b19 C E Q _ hd
  · refine g_aload_n C dX6_hasAll_8 rfl 1 rfl ?_
    refine g_aload_n C dX6_hasAll_9 rfl 0 rfl ?_
    obtain ⟨v2, hv2, hd⟩ := Option.bind_eq_some_iff.mp hd
    refine g_fld C gk_X6 (k := 0) (by decide) q1436 (Or.inl rfl) dX6_hasAll_10 (gR_v hv2) ?_
    obtain ⟨hg, hd⟩ := gd_some hd
    obtain ⟨v4, S3, hc, hd⟩ := bn_some hd
    refine g_cV_v (n := 1) C (gk_X2).1 q1288 q1085 q1086 q102 q1087 (by decide +kernel) (by decide) (by decide) dX6_hasAll_13 (As := [vR v2]) (rest := []) rfl rfl (Nat.le_of_ble_eq_true rfl) hg (m_X2_isBelow E hc) ?_
    refine g_if_eq (tgt := 23) C dX6_hasAll_16 (by decide) hd (fun hd => ?_) (fun hd => ?_)
    · refine g_iconst (v := 0) C dX6_hasAll_23 (by decide) ?_
      exact g_iret C Q hd dX6_hasAll_24
    · refine g_sub [] rfl ?_
      exact w_X6_hasAll_b19 C E Q _ hd
theorem m_X6_hasAll {Γ : GG} {HI : St → Heap → Prop} {l : Launch} (E : EH Γ HI l) {S : St} {a0 : Option Nat} {a1 : Option Nat} {r : Int32} {S1 : St} (h : n_X6_hasAll S a0 a1 = some (r, S1)) : MS Γ HI l yX6_hasAll cX6_hasAll 2 (some (Jvm.ClassFile.FieldType.boolean)) 3 S [vR a0, vR a1] (.inl (some (vI r))) S1 := by
  refine MS_of E.ntr E.hx (by decide +kernel) rfl (Nat.le_of_ble_eq_true rfl) fun K e1 e2 e3 e4 hnm C Q => ?_
  subst e1; subst e2; subst e3
  exact w_X6_hasAll_b0m C E Q S a0 a1 h

def n_X1_wouldNest_b88 (k16 : St → Option Nat → Option Nat → Int32 → Int32 → Option Nat → Option (Int32 × St)) (S : St) (x1 : Option Nat) (x2 : Option Nat) (x3 : Int32) (x5 : Option Nat) (y0 : Int32) : Option (Int32 × St) :=
  k16 S x1 x2 x3 y0 x5
def n_X1_wouldNest_b83 (k16 : St → Option Nat → Option Nat → Int32 → Int32 → Option Nat → Option (Int32 × St)) (S : St) (x1 : Option Nat) (x2 : Option Nat) (x3 : Int32) (x5 : Option Nat) : Option (Int32 × St) :=
  n_X1_wouldNest_b88 k16 S x1 x2 x3 x5 (1 : Int32)
def n_X1_wouldNest_b68 (k16 : St → Option Nat → Option Nat → Int32 → Int32 → Option Nat → Option (Int32 × St)) (S : St) (x1 : Option Nat) (x2 : Option Nat) (x4 : Int32) (x5 : Option Nat) (x6 : Option Nat) (y0 : Int32) : Option (Int32 × St) :=
  if x4 = 0 then
    gd (grc S x6 4) <|
    bn (n_X6_hasAll S x6 x2) fun v2 S1 =>
    if v2 = 0 then
      n_X1_wouldNest_b88 k16 S1 x1 x2 y0 x5 (0 : Int32)
    else
      n_X1_wouldNest_b83 k16 S1 x1 x2 y0 x5
  else
    n_X1_wouldNest_b83 k16 S x1 x2 y0 x5
def n_X1_wouldNest_b63 (k16 : St → Option Nat → Option Nat → Int32 → Int32 → Option Nat → Option (Int32 × St)) (S : St) (x1 : Option Nat) (x2 : Option Nat) (x4 : Int32) (x5 : Option Nat) (x6 : Option Nat) : Option (Int32 × St) :=
  n_X1_wouldNest_b68 k16 S x1 x2 x4 x5 x6 (1 : Int32)
def n_X1_wouldNest_b16 : Nat → St → Option Nat → Option Nat → Int32 → Int32 → Option Nat → Option (Int32 × St)
  | 0 => fun _ _ _ _ _ _ => none
  | n + 1 => fun S x1 x2 x3 x4 x5 =>
    gd (grc S x5 13) <|
    bn (h_J29_hasNext S x5) fun v2 S1 =>
    if v2 = 0 then
      if x3 = 0 then
        rtI id (Jvm.ClassFile.FieldType.boolean) (0 : Int32) S1
      else
        if x4 = 0 then
          rtI id (Jvm.ClassFile.FieldType.boolean) (0 : Int32) S1
        else
          rtI id (Jvm.ClassFile.FieldType.boolean) (1 : Int32) S1
    else
      gd (grc S1 x5 13) <|
      bn (h_J29_next S1 x5) fun v4 S3 =>
      gd (gcst S3 v4 4) <|
      if x3 = 0 then
        (gR S3 v4 4 0).bind fun v5 =>
        if v5 = x1 then
          n_X1_wouldNest_b63 (n_X1_wouldNest_b16 n) S3 x1 x2 x4 x5 v4
        else
          (gR S3 v4 4 0).bind fun v6 =>
          gd (grc S3 v6 1) <|
          bn (n_X2_isBelow S3 v6 x1) fun v8 S7 =>
          if v8 = 0 then
            n_X1_wouldNest_b68 (n_X1_wouldNest_b16 n) S7 x1 x2 x4 x5 v4 (0 : Int32)
          else
            n_X1_wouldNest_b63 (n_X1_wouldNest_b16 n) S7 x1 x2 x4 x5 v4
      else
        n_X1_wouldNest_b63 (n_X1_wouldNest_b16 n) S3 x1 x2 x4 x5 v4
def n_X1_wouldNest (S : St) (x0 : Option Nat) (x1 : Option Nat) (x2 : Option Nat) : Option (Int32 × St) :=
  (gR S x0 0 1).bind fun v1 =>
  gd (grc S v1 9) <|
  bn (h_J3_iterator S v1) fun v3 S2 =>
  n_X1_wouldNest_b16 FU S2 x1 x2 (0 : Int32) (0 : Int32) v3
theorem w_X1_wouldNest_b88 {K : KT} {r : Int32} {S1 : St} (C : GC K RX1 cX1_wouldNest 7 7 []) (E : EH (kΓ K) (kHI K) (kl K)) (Q : GQ K (some (Jvm.ClassFile.FieldType.boolean)) (.inl (some (vI r))) S1) {k16 : St → Option Nat → Option Nat → Int32 → Int32 → Option Nat → Option (Int32 × St)} (h16 : ∀ (S : St) (x1 : Option Nat) (x2 : Option Nat) (x3 : Int32) (x4 : Int32) (x5 : Option Nat), k16 S x1 x2 x3 x4 x5 = some (r, S1) → G K 7 S 16 [(1, vR x1), (2, vR x2), (3, vI x3), (4, vI x4), (5, vR x5)] []) : ∀ (S : St) (x1 : Option Nat) (x2 : Option Nat) (x3 : Int32) (x5 : Option Nat) (y0 : Int32), n_X1_wouldNest_b88 k16 S x1 x2 x3 x5 y0 = some (r, S1) → G K 7 S 88 [(1, vR x1), (2, vR x2), (3, vI x3), (5, vR x5)] [vI y0] := by
  intro S x1 x2 x3 x5 y0 hd
  unfold n_X1_wouldNest_b88 at hd
  refine g_istore (L' := [(4, vI y0), (1, vR x1), (2, vR x2), (3, vI x3), (5, vR x5)]) C dX1_wouldNest_88 (by decide) rfl ?_
  refine g_goto (tgt := 16) C dX1_wouldNest_90 (by decide) ?_
  refine g_sub [1, 2, 3, 0, 4] rfl ?_
  exact h16 _ _ _ _ _ _ hd
theorem w_X1_wouldNest_b83 {K : KT} {r : Int32} {S1 : St} (C : GC K RX1 cX1_wouldNest 7 7 []) (E : EH (kΓ K) (kHI K) (kl K)) (Q : GQ K (some (Jvm.ClassFile.FieldType.boolean)) (.inl (some (vI r))) S1) {k16 : St → Option Nat → Option Nat → Int32 → Int32 → Option Nat → Option (Int32 × St)} (h16 : ∀ (S : St) (x1 : Option Nat) (x2 : Option Nat) (x3 : Int32) (x4 : Int32) (x5 : Option Nat), k16 S x1 x2 x3 x4 x5 = some (r, S1) → G K 7 S 16 [(1, vR x1), (2, vR x2), (3, vI x3), (4, vI x4), (5, vR x5)] []) : ∀ (S : St) (x1 : Option Nat) (x2 : Option Nat) (x3 : Int32) (x5 : Option Nat), n_X1_wouldNest_b83 k16 S x1 x2 x3 x5 = some (r, S1) → G K 7 S 83 [(1, vR x1), (2, vR x2), (3, vI x3), (5, vR x5)] [] := by
  intro S x1 x2 x3 x5 hd
  unfold n_X1_wouldNest_b83 at hd
  refine g_iconst (v := 1) C dX1_wouldNest_83 (by decide) ?_
  refine g_goto (tgt := 88) C dX1_wouldNest_84 (by decide) ?_
  refine g_sub [0, 1, 2, 3] rfl ?_
  exact w_X1_wouldNest_b88 C E Q h16 _ _ _ _ _ _ hd
theorem w_X1_wouldNest_b68 {K : KT} {r : Int32} {S1 : St} (C : GC K RX1 cX1_wouldNest 7 7 []) (E : EH (kΓ K) (kHI K) (kl K)) (Q : GQ K (some (Jvm.ClassFile.FieldType.boolean)) (.inl (some (vI r))) S1) {k16 : St → Option Nat → Option Nat → Int32 → Int32 → Option Nat → Option (Int32 × St)} (h16 : ∀ (S : St) (x1 : Option Nat) (x2 : Option Nat) (x3 : Int32) (x4 : Int32) (x5 : Option Nat), k16 S x1 x2 x3 x4 x5 = some (r, S1) → G K 7 S 16 [(1, vR x1), (2, vR x2), (3, vI x3), (4, vI x4), (5, vR x5)] []) : ∀ (S : St) (x1 : Option Nat) (x2 : Option Nat) (x4 : Int32) (x5 : Option Nat) (x6 : Option Nat) (y0 : Int32), n_X1_wouldNest_b68 k16 S x1 x2 x4 x5 x6 y0 = some (r, S1) → G K 7 S 68 [(1, vR x1), (2, vR x2), (4, vI x4), (5, vR x5), (6, vR x6)] [vI y0] := by
  intro S x1 x2 x4 x5 x6 y0 hd
  unfold n_X1_wouldNest_b68 at hd
  refine g_istore_n (L' := [(3, vI y0), (1, vR x1), (2, vR x2), (4, vI x4), (5, vR x5), (6, vR x6)]) C dX1_wouldNest_68 rfl (by decide) rfl ?_
  refine g_iload C dX1_wouldNest_69 3 rfl ?_
  refine g_if_ne (tgt := 83) C dX1_wouldNest_71 (by decide) hd (fun hd => ?_) (fun hd => ?_)
  · refine g_sub [1, 2, 0, 4] rfl ?_
    exact w_X1_wouldNest_b83 C E Q h16 _ _ _ _ _ hd
  · refine g_aload C dX1_wouldNest_74 5 rfl ?_
    refine g_aload_n C dX1_wouldNest_76 rfl 2 rfl ?_
    obtain ⟨hg, hd⟩ := gd_some hd
    obtain ⟨v2, S1, hc, hd⟩ := bn_some hd
    refine g_cV_v (n := 1) C (gk_X6).1 q1284 q1285 q1286 q137 q1287 (by decide +kernel) (by decide) (by decide) dX1_wouldNest_77 (As := [vR x2]) (rest := []) rfl rfl (Nat.le_of_ble_eq_true rfl) hg (m_X6_hasAll E hc) ?_
    refine g_if_eq (tgt := 87) C dX1_wouldNest_80 (by decide) hd (fun hd => ?_) (fun hd => ?_)
    · refine g_iconst (v := 0) C dX1_wouldNest_87 (by decide) ?_
      refine g_sub [1, 2, 0, 4] rfl ?_
      exact w_X1_wouldNest_b88 C E Q h16 _ _ _ _ _ _ hd
    · refine g_sub [1, 2, 0, 4] rfl ?_
      exact w_X1_wouldNest_b83 C E Q h16 _ _ _ _ _ hd
theorem w_X1_wouldNest_b63 {K : KT} {r : Int32} {S1 : St} (C : GC K RX1 cX1_wouldNest 7 7 []) (E : EH (kΓ K) (kHI K) (kl K)) (Q : GQ K (some (Jvm.ClassFile.FieldType.boolean)) (.inl (some (vI r))) S1) {k16 : St → Option Nat → Option Nat → Int32 → Int32 → Option Nat → Option (Int32 × St)} (h16 : ∀ (S : St) (x1 : Option Nat) (x2 : Option Nat) (x3 : Int32) (x4 : Int32) (x5 : Option Nat), k16 S x1 x2 x3 x4 x5 = some (r, S1) → G K 7 S 16 [(1, vR x1), (2, vR x2), (3, vI x3), (4, vI x4), (5, vR x5)] []) : ∀ (S : St) (x1 : Option Nat) (x2 : Option Nat) (x4 : Int32) (x5 : Option Nat) (x6 : Option Nat), n_X1_wouldNest_b63 k16 S x1 x2 x4 x5 x6 = some (r, S1) → G K 7 S 63 [(1, vR x1), (2, vR x2), (4, vI x4), (5, vR x5), (6, vR x6)] [] := by
  intro S x1 x2 x4 x5 x6 hd
  unfold n_X1_wouldNest_b63 at hd
  refine g_iconst (v := 1) C dX1_wouldNest_63 (by decide) ?_
  refine g_goto (tgt := 68) C dX1_wouldNest_64 (by decide) ?_
  refine g_sub [0, 1, 2, 3, 4] rfl ?_
  exact w_X1_wouldNest_b68 C E Q h16 _ _ _ _ _ _ _ hd
theorem w_X1_wouldNest_b16 {K : KT} {r : Int32} {S1 : St} (C : GC K RX1 cX1_wouldNest 7 7 []) (E : EH (kΓ K) (kHI K) (kl K)) (Q : GQ K (some (Jvm.ClassFile.FieldType.boolean)) (.inl (some (vI r))) S1) : ∀ (n : Nat) (S : St) (x1 : Option Nat) (x2 : Option Nat) (x3 : Int32) (x4 : Int32) (x5 : Option Nat), n_X1_wouldNest_b16 n S x1 x2 x3 x4 x5 = some (r, S1) → G K 7 S 16 [(1, vR x1), (2, vR x2), (3, vI x3), (4, vI x4), (5, vR x5)] [] := by
  intro n
  induction n with
  | zero => intro S x1 x2 x3 x4 x5 hd; cases hd
  | succ n ih =>
    intro S x1 x2 x3 x4 x5 hd
    unfold n_X1_wouldNest_b16 at hd
    refine g_aload C dX1_wouldNest_16 4 rfl ?_
    obtain ⟨hg, hd⟩ := gd_some hd
    obtain ⟨v2, S1, hc, hd⟩ := bn_some hd
    refine g_cF_v (n := 0) C (gk_J29).1 q925 q951 q949 q129 q953 (List.mem_of_getElem? (i := 12) rfl) (by decide +kernel) (by decide) (by decide) dX1_wouldNest_18 (As := []) (rest := []) rfl rfl (Nat.le_of_ble_eq_true rfl) hg (mh_J29_hasNext E hc) ?_
    refine g_if_eq (tgt := 93) C dX1_wouldNest_23 (by decide) hd (fun hd => ?_) (fun hd => ?_)
    · refine g_iload_n C dX1_wouldNest_93 rfl 2 rfl ?_
      refine g_if_eq (tgt := 106) C dX1_wouldNest_94 (by decide) hd (fun hd => ?_) (fun hd => ?_)
      · refine g_iconst (v := 0) C dX1_wouldNest_106 (by decide) ?_
        exact g_iret C Q hd dX1_wouldNest_107
      · refine g_iload C dX1_wouldNest_97 3 rfl ?_
        refine g_if_eq (tgt := 106) C dX1_wouldNest_99 (by decide) hd (fun hd => ?_) (fun hd => ?_)
        · refine g_iconst (v := 0) C dX1_wouldNest_106 (by decide) ?_
          exact g_iret C Q hd dX1_wouldNest_107
        · refine g_iconst (v := 1) C dX1_wouldNest_102 (by decide) ?_
          refine g_goto (tgt := 107) C dX1_wouldNest_103 (by decide) ?_
          exact g_iret C Q hd dX1_wouldNest_107
    · refine g_aload C dX1_wouldNest_26 4 rfl ?_
      obtain ⟨hg, hd⟩ := gd_some hd
      obtain ⟨v4, S3, hc, hd⟩ := bn_some hd
      refine g_cF_v (n := 0) C (gk_J29).1 q955 q1047 q1045 q129 q1049 (List.mem_of_getElem? (i := 13) rfl) (by decide +kernel) (by decide) (by decide) dX1_wouldNest_28 (As := []) (rest := []) rfl rfl (Nat.le_of_ble_eq_true rfl) hg (mh_J29_next E hc) ?_
      refine g_cast C (gk_X6).1 q1055 dX1_wouldNest_33 hd (fun hd => ?_)
      refine g_astore (L' := [(6, vR v4), (1, vR x1), (2, vR x2), (3, vI x3), (4, vI x4), (5, vR x5)]) C dX1_wouldNest_36 (by decide) rfl ?_
      refine g_iload_n C dX1_wouldNest_38 rfl 3 rfl ?_
      refine g_if_ne (tgt := 63) C dX1_wouldNest_39 (by decide) hd (fun hd => ?_) (fun hd => ?_)
      · refine g_sub [1, 2, 4, 5, 0] rfl ?_
        exact w_X1_wouldNest_b63 C E Q ih _ _ _ _ _ _ hd
      · refine g_aload C dX1_wouldNest_42 0 rfl ?_
        obtain ⟨v5, hv5, hd⟩ := Option.bind_eq_some_iff.mp hd
        refine g_fldN C gk_X6 (k := 0) (by decide) q1437 rfl dX1_wouldNest_44 (gR_v hv5) ?_
        refine g_aload_n C dX1_wouldNest_47 rfl 1 rfl ?_
        refine g_acmp_eq (tgt := 63) C dX1_wouldNest_48 (by decide) hd (fun hd => ?_) (fun hd => ?_)
        · refine g_sub [1, 2, 4, 5, 0] rfl ?_
          exact w_X1_wouldNest_b63 C E Q ih _ _ _ _ _ _ hd
        · refine g_aload C dX1_wouldNest_51 0 rfl ?_
          obtain ⟨v6, hv6, hd⟩ := Option.bind_eq_some_iff.mp hd
          refine g_fldN C gk_X6 (k := 0) (by decide) q1437 rfl dX1_wouldNest_53 (gR_v hv6) ?_
          refine g_aload_n C dX1_wouldNest_56 rfl 1 rfl ?_
          obtain ⟨hg, hd⟩ := gd_some hd
          obtain ⟨v8, S7, hc, hd⟩ := bn_some hd
          refine g_cV_v (n := 1) C (gk_X2).1 q1084 q1085 q1086 q102 q1087 (by decide +kernel) (by decide) (by decide) dX1_wouldNest_57 (As := [vR x1]) (rest := []) rfl rfl (Nat.le_of_ble_eq_true rfl) hg (m_X2_isBelow E hc) ?_
          refine g_if_eq (tgt := 67) C dX1_wouldNest_60 (by decide) hd (fun hd => ?_) (fun hd => ?_)
          · refine g_iconst (v := 0) C dX1_wouldNest_67 (by decide) ?_
            refine g_sub [1, 2, 4, 5, 0] rfl ?_
            exact w_X1_wouldNest_b68 C E Q ih _ _ _ _ _ _ _ hd
          · refine g_sub [1, 2, 4, 5, 0] rfl ?_
            exact w_X1_wouldNest_b63 C E Q ih _ _ _ _ _ _ hd
theorem w_X1_wouldNest_b0m {K : KT} {r : Int32} {S1 : St} (C : GC K RX1 cX1_wouldNest 7 7 []) (E : EH (kΓ K) (kHI K) (kl K)) (Q : GQ K (some (Jvm.ClassFile.FieldType.boolean)) (.inl (some (vI r))) S1) : ∀ (S : St) (x0 : Option Nat) (x1 : Option Nat) (x2 : Option Nat), n_X1_wouldNest S x0 x1 x2 = some (r, S1) → G K 7 S 0 [(0, vR x0), (1, vR x1), (2, vR x2)] [] := by
  intro S x0 x1 x2 hd
  unfold n_X1_wouldNest at hd
  refine g_iconst (v := 0) C dX1_wouldNest_0 (by decide) ?_
  refine g_istore_n (L' := [(3, vI (0 : Int32)), (0, vR x0), (1, vR x1), (2, vR x2)]) C dX1_wouldNest_1 rfl (by decide) rfl ?_
  refine g_iconst (v := 0) C dX1_wouldNest_2 (by decide) ?_
  refine g_istore (L' := [(4, vI (0 : Int32)), (3, vI (0 : Int32)), (0, vR x0), (1, vR x1), (2, vR x2)]) C dX1_wouldNest_3 (by decide) rfl ?_
  refine g_aload_n C dX1_wouldNest_5 rfl 2 rfl ?_
  obtain ⟨v1, hv1, hd⟩ := Option.bind_eq_some_iff.mp hd
  refine g_fld C gk_X1 (k := 1) (by decide) q386 (Or.inl rfl) dX1_wouldNest_6 (gR_v hv1) ?_
  obtain ⟨hg, hd⟩ := gd_some hd
  obtain ⟨v3, S2, hc, hd⟩ := bn_some hd
  refine g_cF_v (n := 0) C (gk_J4).1 q812 q843 q841 q99 q845 (List.mem_of_getElem? (i := 18) rfl) (by decide +kernel) (by decide) (by decide) dX1_wouldNest_9 (As := []) (rest := []) rfl rfl (Nat.le_of_ble_eq_true rfl) hg (mh_J3_iterator E hc) ?_
  refine g_astore (L' := [(5, vR v3), (4, vI (0 : Int32)), (3, vI (0 : Int32)), (0, vR x0), (1, vR x1), (2, vR x2)]) C dX1_wouldNest_14 (by decide) rfl ?_
  refine g_sub [4, 5, 2, 1, 0] rfl ?_
  exact w_X1_wouldNest_b16 C E Q FU _ _ _ _ _ _ hd
theorem m_X1_wouldNest {Γ : GG} {HI : St → Heap → Prop} {l : Launch} (E : EH Γ HI l) {S : St} {a0 : Option Nat} {a1 : Option Nat} {a2 : Option Nat} {r : Int32} {S1 : St} (h : n_X1_wouldNest S a0 a1 a2 = some (r, S1)) : MS Γ HI l yX1_wouldNest cX1_wouldNest 7 (some (Jvm.ClassFile.FieldType.boolean)) 7 S [vR a0, vR a1, vR a2] (.inl (some (vI r))) S1 := by
  refine MS_of E.ntr E.hx (by decide +kernel) rfl (Nat.le_of_ble_eq_true rfl) fun K e1 e2 e3 e4 hnm C Q => ?_
  subst e1; subst e2; subst e3
  exact w_X1_wouldNest_b0m C E Q S a0 a1 a2 h

def n_X1_move_b147 (S : St) (x0 : Option Nat) (x4 : Option Nat) (x6 : Int32) (x8 : Option Nat) : Option ((Int32 ⊕ String) × St) :=
  gd (grc S x0 0) <|
  bn (n_X1_tell S x0 x8 (some (S.2.2.2 1)) x4) fun _ S1 =>
  rtI Sum.inl (Jvm.ClassFile.FieldType.int) x6 S1
def n_X1_move_b87 (S : St) (x0 : Option Nat) (x3 : Int32) (x4 : Option Nat) (x5 : Option Nat) (y0 : Int32) : Option ((Int32 ⊕ String) × St) :=
  tbn (n_X1_possible S y0) fun _ S1 =>
  (gR S1 x4 1 2).bind fun v3 =>
  (gI S1 v3 1 0).bind fun v4 =>
  gd (grc S1 x0 0) <|
  bn (n_X1_above S1 x0 x4) fun v6 S5 =>
  (pR S5 x4 1 2 x5).bind fun S7 =>
  (pI .char S7 x4 1 3 x3).bind fun S8 =>
  gd (grc S8 x0 0) <|
  bn (n_X1_above S8 x0 x4) fun v10 S9 =>
  if v6 = v10 then
    n_X1_move_b147 S9 x0 x4 v4 v10
  else
    gd (grc S9 x0 0) <|
    bn (n_X1_tell S9 x0 v6 (some (S9.2.2.2 3)) x4) fun _ S11 =>
    n_X1_move_b147 S11 x0 x4 v4 v10
def n_X1_move_b86 (S : St) (x0 : Option Nat) (x3 : Int32) (x4 : Option Nat) (x5 : Option Nat) : Option ((Int32 ⊕ String) × St) :=
  n_X1_move_b87 S x0 x3 x4 x5 (0 : Int32)
def n_X1_move_b25 (S : St) (x0 : Option Nat) (x2 : Int32) (x3 : Int32) (x4 : Option Nat) (y0 : Int32) : Option ((Int32 ⊕ String) × St) :=
  tbn (n_X1_need S y0) fun _ S1 =>
  gd (grc S1 x0 0) <|
  tbn (n_X1_folderAt S1 x0 x2) fun v4 S3 =>
  bn (n_X1_isName S3 x3) fun v6 S5 =>
  tbn (n_X1_check S5 v6) fun _ S7 =>
  if v4 = x4 then
    n_X1_move_b86 S7 x0 x3 x4 v4
  else
    gd (grc S7 v4 1) <|
    bn (n_X2_isBelow S7 v4 x4) fun v10 S9 =>
    if v10 = 0 then
      gd (grc S9 x0 0) <|
      bn (n_X1_isTaken S9 x0 v4 x3 x4) fun v12 S11 =>
      if v12 = 0 then
        gd (grc S11 x0 0) <|
        bn (n_X1_wouldNest S11 x0 x4 v4) fun v14 S13 =>
        if v14 = 0 then
          n_X1_move_b87 S13 x0 x3 x4 v4 (1 : Int32)
        else
          n_X1_move_b86 S13 x0 x3 x4 v4
      else
        n_X1_move_b86 S11 x0 x3 x4 v4
    else
      n_X1_move_b86 S9 x0 x3 x4 v4
def n_X1_move_b24 (S : St) (x0 : Option Nat) (x2 : Int32) (x3 : Int32) (x4 : Option Nat) : Option ((Int32 ⊕ String) × St) :=
  n_X1_move_b25 S x0 x2 x3 x4 (0 : Int32)
def n_X1_move (S : St) (x0 : Option Nat) (x1 : Int32) (x2 : Int32) (x3 : Int32) : Option ((Int32 ⊕ String) × St) :=
  gd (grc S x0 0) <|
  bn (n_X1_nodeAt S x0 x1) fun v2 S1 =>
  if v2 = none then
    n_X1_move_b24 S1 x0 x2 x3 v2
  else
    (gR S1 v2 1 2).bind fun v3 =>
    if v3 = none then
      n_X1_move_b24 S1 x0 x2 x3 v2
    else
      n_X1_move_b25 S1 x0 x2 x3 v2 (1 : Int32)
theorem w_X1_move_b147 {K : KT} {r : (Int32 ⊕ String)} {S1 : St} (C : GC K RX1 cX1_move 9 10 []) (E : EH (kΓ K) (kHI K) (kl K)) (Q : GQ K (some (Jvm.ClassFile.FieldType.int)) (resI r) S1) : ∀ (S : St) (x0 : Option Nat) (x4 : Option Nat) (x6 : Int32) (x8 : Option Nat), n_X1_move_b147 S x0 x4 x6 x8 = some (r, S1) → G K 9 S 147 [(0, vR x0), (4, vR x4), (6, vI x6), (8, vR x8)] [] := by
  intro S x0 x4 x6 x8 hd
  unfold n_X1_move_b147 at hd
  refine g_aload_n C dX1_move_147 rfl 0 rfl ?_
  refine g_aload C dX1_move_148 3 rfl ?_
  refine g_getsR C 1 (fun lv => (C lv).hk.2.2.2.2.1.2.2.1) q1180 rfl dX1_move_150 ?_
  refine g_aload C dX1_move_153 1 rfl ?_
  obtain ⟨hg, hd⟩ := gd_some hd
  obtain ⟨_, S1, hc, hd⟩ := bn_some hd
  refine g_cV_n (n := 3) C (gk_X1).1 q1182 q1184 qs18 q95 q1185 (by decide +kernel) (by decide) (by decide) dX1_move_155 (As := [vR x8, vR (some (S.2.2.2 1)), vR x4]) (rest := []) rfl rfl (Nat.le_of_ble_eq_true rfl) hg (m_X1_tell E hc) ?_
  refine g_iload C dX1_move_158 2 rfl ?_
  exact g_iretT C Q hd dX1_move_160
theorem w_X1_move_b87 {K : KT} {r : (Int32 ⊕ String)} {S1 : St} (C : GC K RX1 cX1_move 9 10 []) (E : EH (kΓ K) (kHI K) (kl K)) (Q : GQ K (some (Jvm.ClassFile.FieldType.int)) (resI r) S1) : ∀ (S : St) (x0 : Option Nat) (x3 : Int32) (x4 : Option Nat) (x5 : Option Nat) (y0 : Int32), n_X1_move_b87 S x0 x3 x4 x5 y0 = some (r, S1) → G K 9 S 87 [(0, vR x0), (3, vI x3), (4, vR x4), (5, vR x5)] [vI y0] := by
  intro S x0 x3 x4 x5 y0 hd
  unfold n_X1_move_b87 at hd
  rcases tbn_some hd with ⟨X9, S1, hc, hz⟩ | ⟨_, S1, hc, hd⟩
  · cases hz; exact g_cS_x (n := 1) C q1162 q1163 q95 q1164 (by decide +kernel) (by decide) (by decide) dX1_move_87 (As := [vI y0]) (rest := []) rfl rfl (Nat.le_of_ble_eq_true rfl) (m_X1_possible E hc) (g_out C Q)
  refine g_cS_n (n := 1) C q1162 q1163 q95 q1164 (by decide +kernel) (by decide) (by decide) dX1_move_87 (As := [vI y0]) (rest := []) rfl rfl (Nat.le_of_ble_eq_true rfl) (m_X1_possible E hc) ?_
  refine g_aload C dX1_move_90 2 rfl ?_
  obtain ⟨v3, hv3, hd⟩ := Option.bind_eq_some_iff.mp hd
  refine g_fldN C gk_X2 (k := 2) (by decide) q244 rfl dX1_move_92 (gR_v hv3) ?_
  obtain ⟨v4, hv4, hd⟩ := Option.bind_eq_some_iff.mp hd
  refine g_fldN C gk_X2 (k := 0) (by decide) q240 rfl dX1_move_95 (gI_v hv4) ?_
  refine g_istore (L' := [(6, vI v4), (0, vR x0), (3, vI x3), (4, vR x4), (5, vR x5)]) C dX1_move_98 (by decide) rfl ?_
  refine g_aload_n C dX1_move_100 rfl 1 rfl ?_
  refine g_aload C dX1_move_101 3 rfl ?_
  obtain ⟨hg, hd⟩ := gd_some hd
  obtain ⟨v6, S5, hc, hd⟩ := bn_some hd
  refine g_cV_v (n := 1) C (gk_X1).1 q1080 q1082 qs14 q95 q1083 (by decide +kernel) (by decide) (by decide) dX1_move_103 (As := [vR x4]) (rest := []) rfl rfl (Nat.le_of_ble_eq_true rfl) hg (m_X1_above E hc) ?_
  refine g_astore (L' := [(7, vR v6), (6, vI v4), (0, vR x0), (3, vI x3), (4, vR x4), (5, vR x5)]) C dX1_move_106 (by decide) rfl ?_
  refine g_aload C dX1_move_108 4 rfl ?_
  refine g_aload C dX1_move_110 5 rfl ?_
  obtain ⟨S7, hS7, hd⟩ := Option.bind_eq_some_iff.mp hd
  refine g_putN C gk_X2 (k := 2) (by decide) q244 rfl rfl dX1_move_112 (fit_ref _ (Or.inl ⟨_, rfl⟩)).1 (fit_ref _ (Or.inl ⟨_, rfl⟩)).2 hS7 ?_
  refine g_aload C dX1_move_115 4 rfl ?_
  refine g_iload_n C dX1_move_117 rfl 3 rfl ?_
  obtain ⟨S8, hS8, hd⟩ := Option.bind_eq_some_iff.mp hd
  refine g_putN C gk_X2 (k := 3) (by decide) q245 rfl rfl dX1_move_118 (gfit_ok (pI_v hS8).1).1 (gfit_ok (pI_v hS8).1).2 (pI_v hS8).2 ?_
  refine g_aload_n C dX1_move_121 rfl 2 rfl ?_
  refine g_aload C dX1_move_122 4 rfl ?_
  obtain ⟨hg, hd⟩ := gd_some hd
  obtain ⟨v10, S9, hc, hd⟩ := bn_some hd
  refine g_cV_v (n := 1) C (gk_X1).1 q1080 q1082 qs14 q95 q1083 (by decide +kernel) (by decide) (by decide) dX1_move_124 (As := [vR x4]) (rest := []) rfl rfl (Nat.le_of_ble_eq_true rfl) hg (m_X1_above E hc) ?_
  refine g_astore (L' := [(8, vR v10), (7, vR v6), (6, vI v4), (0, vR x0), (3, vI x3), (4, vR x4), (5, vR x5)]) C dX1_move_127 (by decide) rfl ?_
  refine g_aload C dX1_move_129 1 rfl ?_
  refine g_aload C dX1_move_131 0 rfl ?_
  refine g_acmp_eq (tgt := 147) C dX1_move_133 (by decide) hd (fun hd => ?_) (fun hd => ?_)
  · refine g_sub [3, 5, 2, 0] rfl ?_
    exact w_X1_move_b147 C E Q _ _ _ _ _ hd
  · refine g_aload_n C dX1_move_136 rfl 3 rfl ?_
    refine g_aload C dX1_move_137 1 rfl ?_
    refine g_getsR C 3 (fun lv => (C lv).hk.2.2.2.2.1.2.2.2.2) q1289 rfl dX1_move_139 ?_
    refine g_aload C dX1_move_142 5 rfl ?_
    obtain ⟨hg, hd⟩ := gd_some hd
    obtain ⟨_, S11, hc, hd⟩ := bn_some hd
    refine g_cV_n (n := 3) C (gk_X1).1 q1182 q1184 qs18 q95 q1185 (by decide +kernel) (by decide) (by decide) dX1_move_144 (As := [vR v6, vR (some (S9.2.2.2 3)), vR x4]) (rest := []) rfl rfl (Nat.le_of_ble_eq_true rfl) hg (m_X1_tell E hc) ?_
    refine g_sub [3, 5, 2, 0] rfl ?_
    exact w_X1_move_b147 C E Q _ _ _ _ _ hd
theorem w_X1_move_b86 {K : KT} {r : (Int32 ⊕ String)} {S1 : St} (C : GC K RX1 cX1_move 9 10 []) (E : EH (kΓ K) (kHI K) (kl K)) (Q : GQ K (some (Jvm.ClassFile.FieldType.int)) (resI r) S1) : ∀ (S : St) (x0 : Option Nat) (x3 : Int32) (x4 : Option Nat) (x5 : Option Nat), n_X1_move_b86 S x0 x3 x4 x5 = some (r, S1) → G K 9 S 86 [(0, vR x0), (3, vI x3), (4, vR x4), (5, vR x5)] [] := by
  intro S x0 x3 x4 x5 hd
  unfold n_X1_move_b86 at hd
  refine g_iconst (v := 0) C dX1_move_86 (by decide) ?_
  refine g_sub [0, 1, 2, 3] rfl ?_
  exact w_X1_move_b87 C E Q _ _ _ _ _ _ hd
theorem w_X1_move_b25 {K : KT} {r : (Int32 ⊕ String)} {S1 : St} (C : GC K RX1 cX1_move 9 10 []) (E : EH (kΓ K) (kHI K) (kl K)) (Q : GQ K (some (Jvm.ClassFile.FieldType.int)) (resI r) S1) : ∀ (S : St) (x0 : Option Nat) (x2 : Int32) (x3 : Int32) (x4 : Option Nat) (y0 : Int32), n_X1_move_b25 S x0 x2 x3 x4 y0 = some (r, S1) → G K 9 S 25 [(0, vR x0), (2, vI x2), (3, vI x3), (4, vR x4)] [vI y0] := by
  intro S x0 x2 x3 x4 y0 hd
  unfold n_X1_move_b25 at hd
  rcases tbn_some hd with ⟨X9, S1, hc, hz⟩ | ⟨_, S1, hc, hd⟩
  · cases hz; exact g_cS_x (n := 1) C q1133 q1134 q95 q1135 (by decide +kernel) (by decide) (by decide) dX1_move_25 (As := [vI y0]) (rest := []) rfl rfl (Nat.le_of_ble_eq_true rfl) (m_X1_need E hc) (g_out C Q)
  refine g_cS_n (n := 1) C q1133 q1134 q95 q1135 (by decide +kernel) (by decide) (by decide) dX1_move_25 (As := [vI y0]) (rest := []) rfl rfl (Nat.le_of_ble_eq_true rfl) (m_X1_need E hc) ?_
  refine g_aload_n C dX1_move_28 rfl 0 rfl ?_
  refine g_iload_n C dX1_move_29 rfl 1 rfl ?_
  obtain ⟨hg, hd⟩ := gd_some hd
  rcases tbn_some hd with ⟨X9, S3, hc, hz⟩ | ⟨v4, S3, hc, hd⟩
  · cases hz; exact g_cV_x (n := 1) C (gk_X1).1 q1122 q1124 qs15 q95 q1125 (by decide +kernel) (by decide) (by decide) dX1_move_30 (As := [vI x2]) (rest := []) rfl rfl (Nat.le_of_ble_eq_true rfl) hg (m_X1_folderAt E hc) (g_out C Q)
  refine g_cV_v (n := 1) C (gk_X1).1 q1122 q1124 qs15 q95 q1125 (by decide +kernel) (by decide) (by decide) dX1_move_30 (As := [vI x2]) (rest := []) rfl rfl (Nat.le_of_ble_eq_true rfl) hg (m_X1_folderAt E hc) ?_
  refine g_astore (L' := [(5, vR v4), (0, vR x0), (2, vI x2), (3, vI x3), (4, vR x4)]) C dX1_move_33 (by decide) rfl ?_
  refine g_iload_n C dX1_move_35 rfl 3 rfl ?_
  obtain ⟨v6, S5, hc, hd⟩ := bn_some hd
  refine g_cS_v (n := 1) C q1147 q1148 q95 q1149 (by decide +kernel) (by decide) (by decide) dX1_move_36 (As := [vI x3]) (rest := []) rfl rfl (Nat.le_of_ble_eq_true rfl) (m_X1_isName E hc) ?_
  rcases tbn_some hd with ⟨X9, S7, hc, hz⟩ | ⟨_, S7, hc, hd⟩
  · cases hz; exact g_cS_x (n := 1) C q1150 q1151 q95 q1152 (by decide +kernel) (by decide) (by decide) dX1_move_39 (As := [vI v6]) (rest := []) rfl rfl (Nat.le_of_ble_eq_true rfl) (m_X1_check E hc) (g_out C Q)
  refine g_cS_n (n := 1) C q1150 q1151 q95 q1152 (by decide +kernel) (by decide) (by decide) dX1_move_39 (As := [vI v6]) (rest := []) rfl rfl (Nat.le_of_ble_eq_true rfl) (m_X1_check E hc) ?_
  refine g_aload C dX1_move_42 0 rfl ?_
  refine g_aload C dX1_move_44 4 rfl ?_
  refine g_acmp_eq (tgt := 86) C dX1_move_46 (by decide) hd (fun hd => ?_) (fun hd => ?_)
  · refine g_sub [1, 3, 4, 0] rfl ?_
    exact w_X1_move_b86 C E Q _ _ _ _ _ hd
  · refine g_aload C dX1_move_49 0 rfl ?_
    refine g_aload C dX1_move_51 4 rfl ?_
    obtain ⟨hg, hd⟩ := gd_some hd
    obtain ⟨v10, S9, hc, hd⟩ := bn_some hd
    refine g_cV_v (n := 1) C (gk_X2).1 q1084 q1085 q1086 q102 q1087 (by decide +kernel) (by decide) (by decide) dX1_move_53 (As := [vR x4]) (rest := []) rfl rfl (Nat.le_of_ble_eq_true rfl) hg (m_X2_isBelow E hc) ?_
    refine g_if_ne (tgt := 86) C dX1_move_56 (by decide) hd (fun hd => ?_) (fun hd => ?_)
    · refine g_sub [1, 3, 4, 0] rfl ?_
      exact w_X1_move_b86 C E Q _ _ _ _ _ hd
    · refine g_aload_n C dX1_move_59 rfl 1 rfl ?_
      refine g_aload C dX1_move_60 0 rfl ?_
      refine g_iload_n C dX1_move_62 rfl 3 rfl ?_
      refine g_aload C dX1_move_63 4 rfl ?_
      obtain ⟨hg, hd⟩ := gd_some hd
      obtain ⟨v12, S11, hc, hd⟩ := bn_some hd
      refine g_cV_v (n := 3) C (gk_X1).1 q1158 q1160 qs17 q95 q1161 (by decide +kernel) (by decide) (by decide) dX1_move_65 (As := [vR v4, vI x3, vR x4]) (rest := []) rfl rfl (Nat.le_of_ble_eq_true rfl) hg (m_X1_isTaken E hc) ?_
      refine g_if_ne (tgt := 86) C dX1_move_68 (by decide) hd (fun hd => ?_) (fun hd => ?_)
      · refine g_sub [1, 3, 4, 0] rfl ?_
        exact w_X1_move_b86 C E Q _ _ _ _ _ hd
      · refine g_aload_n C dX1_move_71 rfl 1 rfl ?_
        refine g_aload C dX1_move_72 4 rfl ?_
        refine g_aload C dX1_move_74 0 rfl ?_
        obtain ⟨hg, hd⟩ := gd_some hd
        obtain ⟨v14, S13, hc, hd⟩ := bn_some hd
        refine g_cV_v (n := 2) C (gk_X1).1 q1280 q1282 qs21 q95 q1283 (by decide +kernel) (by decide) (by decide) dX1_move_76 (As := [vR x4, vR v4]) (rest := []) rfl rfl (Nat.le_of_ble_eq_true rfl) hg (m_X1_wouldNest E hc) ?_
        refine g_if_ne (tgt := 86) C dX1_move_79 (by decide) hd (fun hd => ?_) (fun hd => ?_)
        · refine g_sub [1, 3, 4, 0] rfl ?_
          exact w_X1_move_b86 C E Q _ _ _ _ _ hd
        · refine g_iconst (v := 1) C dX1_move_82 (by decide) ?_
          refine g_goto (tgt := 87) C dX1_move_83 (by decide) ?_
          refine g_sub [1, 3, 4, 0] rfl ?_
          exact w_X1_move_b87 C E Q _ _ _ _ _ _ hd
theorem w_X1_move_b24 {K : KT} {r : (Int32 ⊕ String)} {S1 : St} (C : GC K RX1 cX1_move 9 10 []) (E : EH (kΓ K) (kHI K) (kl K)) (Q : GQ K (some (Jvm.ClassFile.FieldType.int)) (resI r) S1) : ∀ (S : St) (x0 : Option Nat) (x2 : Int32) (x3 : Int32) (x4 : Option Nat), n_X1_move_b24 S x0 x2 x3 x4 = some (r, S1) → G K 9 S 24 [(0, vR x0), (2, vI x2), (3, vI x3), (4, vR x4)] [] := by
  intro S x0 x2 x3 x4 hd
  unfold n_X1_move_b24 at hd
  refine g_iconst (v := 0) C dX1_move_24 (by decide) ?_
  refine g_sub [0, 1, 2, 3] rfl ?_
  exact w_X1_move_b25 C E Q _ _ _ _ _ _ hd
theorem w_X1_move_b0m {K : KT} {r : (Int32 ⊕ String)} {S1 : St} (C : GC K RX1 cX1_move 9 10 []) (E : EH (kΓ K) (kHI K) (kl K)) (Q : GQ K (some (Jvm.ClassFile.FieldType.int)) (resI r) S1) : ∀ (S : St) (x0 : Option Nat) (x1 : Int32) (x2 : Int32) (x3 : Int32), n_X1_move S x0 x1 x2 x3 = some (r, S1) → G K 9 S 0 [(0, vR x0), (1, vI x1), (2, vI x2), (3, vI x3)] [] := by
  intro S x0 x1 x2 x3 hd
  unfold n_X1_move at hd
  refine g_aload_n C dX1_move_0 rfl 0 rfl ?_
  refine g_iload_n C dX1_move_1 rfl 1 rfl ?_
  obtain ⟨hg, hd⟩ := gd_some hd
  obtain ⟨v2, S1, hc, hd⟩ := bn_some hd
  refine g_cV_v (n := 1) C (gk_X1).1 q1126 q1128 qs16 q95 q1129 (by decide +kernel) (by decide) (by decide) dX1_move_2 (As := [vI x1]) (rest := []) rfl rfl (Nat.le_of_ble_eq_true rfl) hg (m_X1_nodeAt E hc) ?_
  refine g_astore (L' := [(4, vR v2), (0, vR x0), (1, vI x1), (2, vI x2), (3, vI x3)]) C dX1_move_5 (by decide) rfl ?_
  refine g_aload C dX1_move_7 0 rfl ?_
  refine g_ifnull (tgt := 24) C dX1_move_9 (by decide) hd (fun hd => ?_) (fun hd => ?_)
  · refine g_sub [1, 3, 4, 0] rfl ?_
    exact w_X1_move_b24 C E Q _ _ _ _ _ hd
  · refine g_aload C dX1_move_12 0 rfl ?_
    obtain ⟨v3, hv3, hd⟩ := Option.bind_eq_some_iff.mp hd
    refine g_fldN C gk_X2 (k := 2) (by decide) q244 rfl dX1_move_14 (gR_v hv3) ?_
    refine g_ifnull (tgt := 24) C dX1_move_17 (by decide) hd (fun hd => ?_) (fun hd => ?_)
    · refine g_sub [1, 3, 4, 0] rfl ?_
      exact w_X1_move_b24 C E Q _ _ _ _ _ hd
    · refine g_iconst (v := 1) C dX1_move_20 (by decide) ?_
      refine g_goto (tgt := 25) C dX1_move_21 (by decide) ?_
      refine g_sub [1, 3, 4, 0] rfl ?_
      exact w_X1_move_b25 C E Q _ _ _ _ _ _ hd
theorem m_X1_move {Γ : GG} {HI : St → Heap → Prop} {l : Launch} (E : EH Γ HI l) {S : St} {a0 : Option Nat} {a1 : Int32} {a2 : Int32} {a3 : Int32} {r : (Int32 ⊕ String)} {S1 : St} (h : n_X1_move S a0 a1 a2 a3 = some (r, S1)) : MS Γ HI l yX1_move cX1_move 9 (some (Jvm.ClassFile.FieldType.int)) 10 S [vR a0, vI a1, vI a2, vI a3] (resI r) S1 := by
  refine MS_of E.ntr E.hx (by decide +kernel) rfl (Nat.le_of_ble_eq_true rfl) fun K e1 e2 e3 e4 hnm C Q => ?_
  subst e1; subst e2; subst e3
  exact w_X1_move_b0m C E Q S a0 a1 a2 a3 h

def n_X5_init (S : St) (x0 : Option Nat) (x1 : Option Nat) (x2 : Int32) : Option (Unit × St) :=
  gd (x0).isSome <|
  (pR S x0 3 0 x1).bind fun S1 =>
  (pI .boolean S1 x0 3 1 x2).bind fun S2 =>
  some ((), S2)
theorem w_X5_init_b0m {K : KT} {r : Unit} {S1 : St} (C : GC K RX5 cX5_init 3 2 []) (E : EH (kΓ K) (kHI K) (kl K)) (Q : GQ K none (.inl none) S1) (hnm : kLv K → (kme K).name = "<init>") : ∀ (S : St) (x0 : Option Nat) (x1 : Option Nat) (x2 : Int32), n_X5_init S x0 x1 x2 = some (r, S1) → G K 3 S 0 [(0, vR x0), (1, vR x1), (2, vI x2)] [] := by
  intro S x0 x1 x2 hd
  unfold n_X5_init at hd
  refine g_aload_n C dX5_init_0 rfl 0 rfl ?_
  obtain ⟨hg, hd⟩ := gd_some hd
  refine g_objInit C q1378 q149 q150 (by decide) dX5_init_1 hg (Nat.le_of_ble_eq_true rfl) ?_
  refine g_aload_n C dX5_init_4 rfl 0 rfl ?_
  refine g_aload_n C dX5_init_5 rfl 1 rfl ?_
  obtain ⟨S1, hS1, hd⟩ := Option.bind_eq_some_iff.mp hd
  refine g_putF C gk_X5 (k := 0) (by decide) q1379 rfl rfl hnm rfl dX5_init_6 (fit_ref _ (Or.inl ⟨_, rfl⟩)).1 (fit_ref _ (Or.inl ⟨_, rfl⟩)).2 hS1 ?_
  refine g_aload_n C dX5_init_9 rfl 0 rfl ?_
  refine g_iload_n C dX5_init_10 rfl 2 rfl ?_
  obtain ⟨S2, hS2, hd⟩ := Option.bind_eq_some_iff.mp hd
  refine g_put C gk_X5 (k := 1) (by decide) q1381 (Or.inl rfl) rfl dX5_init_11 (gfit_ok (pI_v hS2).1).1 (gfit_ok (pI_v hS2).1).2 (pI_v hS2).2 ?_
  exact g_vret C Q hd dX5_init_14
theorem m_X5_init {Γ : GG} {HI : St → Heap → Prop} {l : Launch} (E : EH Γ HI l) {S : St} {a0 : Option Nat} {a1 : Option Nat} {a2 : Int32} {r : Unit} {S1 : St} (h : n_X5_init S a0 a1 a2 = some (r, S1)) : MS Γ HI l yX5_init cX5_init 3 none 2 S [vR a0, vR a1, vI a2] (.inl none) S1 := by
  refine MS_of E.ntr E.hx (by decide +kernel) rfl (Nat.le_of_ble_eq_true rfl) fun K e1 e2 e3 e4 hnm C Q => ?_
  subst e1; subst e2; subst e3
  exact w_X5_init_b0m C E Q (by exact hnm) S a0 a1 a2 h

def n_X1_add_b8 : Nat → St → Option Nat → Option Nat → Int32 → Option Nat → Option (Unit × St)
  | 0 => fun _ _ _ _ _ => none
  | n + 1 => fun S x0 x1 x2 x3 =>
    gd (grc S x3 13) <|
    bn (h_J29_hasNext S x3) fun v2 S1 =>
    if v2 = 0 then
      (gR S1 x0 0 3).bind fun v3 =>
      nwB S1 (cO 3 [vR none, vI 0, vI 0]) 3 fun q4 S5 =>
      gd (q4).isSome <|
      bn (n_X5_init S5 q4 x1 x2) fun _ S6 =>
      gd (grc S6 v3 9) <|
      bn (h_J4_addLast S6 v3 q4) fun _ S8 =>
      some ((), S8)
    else
      gd (grc S1 x3 13) <|
      bn (h_J29_next S1 x3) fun v11 S10 =>
      gd (gcst S10 v11 3) <|
      (gR S10 v11 3 0).bind fun v12 =>
      if v12 = x1 then
        (pI .boolean S10 v11 3 1 x2).bind fun S13 =>
        some ((), S13)
      else
        (n_X1_add_b8 n) S10 x0 x1 x2 x3
def n_X1_add (S : St) (x0 : Option Nat) (x1 : Option Nat) (x2 : Int32) : Option (Unit × St) :=
  (gR S x0 0 3).bind fun v1 =>
  gd (grc S v1 9) <|
  bn (h_J3_iterator S v1) fun v3 S2 =>
  n_X1_add_b8 FU S2 x0 x1 x2 v3
theorem w_X1_add_b8 {K : KT} {r : Unit} {S1 : St} (C : GC K RX1 cX1_add 5 7 []) (E : EH (kΓ K) (kHI K) (kl K)) (Q : GQ K none (.inl none) S1) : ∀ (n : Nat) (S : St) (x0 : Option Nat) (x1 : Option Nat) (x2 : Int32) (x3 : Option Nat), n_X1_add_b8 n S x0 x1 x2 x3 = some (r, S1) → G K 5 S 8 [(0, vR x0), (1, vR x1), (2, vI x2), (3, vR x3)] [] := by
  intro n
  induction n with
  | zero => intro S x0 x1 x2 x3 hd; cases hd
  | succ n ih =>
    intro S x0 x1 x2 x3 hd
    unfold n_X1_add_b8 at hd
    refine g_aload_n C dX1_add_8 rfl 3 rfl ?_
    obtain ⟨hg, hd⟩ := gd_some hd
    obtain ⟨v2, S1, hc, hd⟩ := bn_some hd
    refine g_cF_v (n := 0) C (gk_J29).1 q925 q951 q949 q129 q953 (List.mem_of_getElem? (i := 12) rfl) (by decide +kernel) (by decide) (by decide) dX1_add_9 (As := []) (rest := []) rfl rfl (Nat.le_of_ble_eq_true rfl) hg (mh_J29_hasNext E hc) ?_
    refine g_if_eq (tgt := 47) C dX1_add_14 (by decide) hd (fun hd => ?_) (fun hd => ?_)
    · refine g_aload_n C dX1_add_47 rfl 0 rfl ?_
      obtain ⟨v3, hv3, hd⟩ := Option.bind_eq_some_iff.mp hd
      refine g_fld C gk_X1 (k := 3) (by decide) q388 (Or.inl rfl) dX1_add_48 (gR_v hv3) ?_
      refine g_new C gk_X5 (fun j hj => gdf_X5 j hj) q1373 q1374 q136 dX1_add_51 hd (fun q4 S5 hd => ?_)
      refine g_dup C dX1_add_54 rfl ?_
      refine g_aload_n C dX1_add_55 rfl 1 rfl ?_
      refine g_iload_n C dX1_add_56 rfl 2 rfl ?_
      obtain ⟨hg, hd⟩ := gd_some hd
      obtain ⟨_, S6, hc, hd⟩ := bn_some hd
      refine g_cI_n (n := 2) C q1375 q1376 q136 q1377 rfl (by decide +kernel) (by decide) (by decide) dX1_add_57 (As := [vR x1, vI x2]) (rest := [vR q4, vR v3]) rfl rfl (Nat.le_of_ble_eq_true rfl) hg (m_X5_init E hc) ?_
      obtain ⟨hg, hd⟩ := gd_some hd
      obtain ⟨_, S8, hc, hd⟩ := bn_some hd
      refine g_cV_n (n := 1) C (gk_J4).1 q1391 q1211 q1212 q100 q1213 (by decide +kernel) (by decide) (by decide) dX1_add_60 (As := [vR q4]) (rest := []) rfl rfl (Nat.le_of_ble_eq_true rfl) hg (mh_J4_addLast E hc) ?_
      exact g_vret C Q hd dX1_add_63
    · refine g_aload_n C dX1_add_17 rfl 3 rfl ?_
      obtain ⟨hg, hd⟩ := gd_some hd
      obtain ⟨v11, S10, hc, hd⟩ := bn_some hd
      refine g_cF_v (n := 0) C (gk_J29).1 q955 q1047 q1045 q129 q1049 (List.mem_of_getElem? (i := 13) rfl) (by decide +kernel) (by decide) (by decide) dX1_add_18 (As := []) (rest := []) rfl rfl (Nat.le_of_ble_eq_true rfl) hg (mh_J29_next E hc) ?_
      refine g_cast C (gk_X5).1 q1373 dX1_add_23 hd (fun hd => ?_)
      refine g_astore (L' := [(4, vR v11), (0, vR x0), (1, vR x1), (2, vI x2), (3, vR x3)]) C dX1_add_26 (by decide) rfl ?_
      refine g_aload C dX1_add_28 0 rfl ?_
      obtain ⟨v12, hv12, hd⟩ := Option.bind_eq_some_iff.mp hd
      refine g_fldN C gk_X5 (k := 0) (by decide) q1380 rfl dX1_add_30 (gR_v hv12) ?_
      refine g_aload_n C dX1_add_33 rfl 2 rfl ?_
      refine g_acmp_ne (tgt := 44) C dX1_add_34 (by decide) hd (fun hd => ?_) (fun hd => ?_)
      · refine g_goto (tgt := 8) C dX1_add_44 (by decide) ?_
        refine g_sub [1, 2, 3, 4] rfl ?_
        exact ih _ _ _ _ _ hd
      · refine g_aload C dX1_add_37 0 rfl ?_
        refine g_iload_n C dX1_add_39 rfl 3 rfl ?_
        obtain ⟨S13, hS13, hd⟩ := Option.bind_eq_some_iff.mp hd
        refine g_putN C gk_X5 (k := 1) (by decide) q1382 rfl rfl dX1_add_40 (gfit_ok (pI_v hS13).1).1 (gfit_ok (pI_v hS13).1).2 (pI_v hS13).2 ?_
        exact g_vret C Q hd dX1_add_43
theorem w_X1_add_b0m {K : KT} {r : Unit} {S1 : St} (C : GC K RX1 cX1_add 5 7 []) (E : EH (kΓ K) (kHI K) (kl K)) (Q : GQ K none (.inl none) S1) : ∀ (S : St) (x0 : Option Nat) (x1 : Option Nat) (x2 : Int32), n_X1_add S x0 x1 x2 = some (r, S1) → G K 5 S 0 [(0, vR x0), (1, vR x1), (2, vI x2)] [] := by
  intro S x0 x1 x2 hd
  unfold n_X1_add at hd
  refine g_aload_n C dX1_add_0 rfl 0 rfl ?_
  obtain ⟨v1, hv1, hd⟩ := Option.bind_eq_some_iff.mp hd
  refine g_fld C gk_X1 (k := 3) (by decide) q388 (Or.inl rfl) dX1_add_1 (gR_v hv1) ?_
  obtain ⟨hg, hd⟩ := gd_some hd
  obtain ⟨v3, S2, hc, hd⟩ := bn_some hd
  refine g_cU_v (n := 0) C (gk_J4).1 q1369 q1370 q843 q1372 q99 q845 rfl (by decide +kernel) (by decide) (by decide) dX1_add_4 (As := []) (rest := []) rfl rfl (Nat.le_of_ble_eq_true rfl) hg (mh_J3_iterator E hc) ?_
  refine g_astore_n (L' := [(3, vR v3), (0, vR x0), (1, vR x1), (2, vI x2)]) C dX1_add_7 rfl (by decide) rfl ?_
  refine g_sub [1, 2, 3, 0] rfl ?_
  exact w_X1_add_b8 C E Q FU _ _ _ _ _ hd
theorem m_X1_add {Γ : GG} {HI : St → Heap → Prop} {l : Launch} (E : EH Γ HI l) {S : St} {a0 : Option Nat} {a1 : Option Nat} {a2 : Int32} {r : Unit} {S1 : St} (h : n_X1_add S a0 a1 a2 = some (r, S1)) : MS Γ HI l yX1_add cX1_add 5 none 7 S [vR a0, vR a1, vI a2] (.inl none) S1 := by
  refine MS_of E.ntr E.hx (by decide +kernel) rfl (Nat.le_of_ble_eq_true rfl) fun K e1 e2 e3 e4 hnm C Q => ?_
  subst e1; subst e2; subst e3
  exact w_X1_add_b0m C E Q S a0 a1 a2 h

def n_X1_lookAtAll_b31 (k2 : St → Option Nat → Int32 → Option (Unit × St)) (S : St) (x0 : Option Nat) (x1 : Int32) : Option (Unit × St) :=
  k2 S x0 (x1 + 1)
def n_X1_lookAtAll_b2 : Nat → St → Option Nat → Int32 → Option (Unit × St)
  | 0 => fun _ _ _ => none
  | n + 1 => fun S x0 x1 =>
    if (60 : Int32) ≤ x1 then
      some ((), S)
    else
      (gR S x0 0 2).bind fun v1 =>
      (aR S v1 5 x1).bind fun v2 =>
      if v2 = none then
        n_X1_lookAtAll_b31 (n_X1_lookAtAll_b2 n) S x0 x1
      else
        (gR S x0 0 2).bind fun v3 =>
        (aR S v3 5 x1).bind fun v4 =>
        (gR S v4 5 0).bind fun v5 =>
        gd (grc S x0 0) <|
        bn (n_X1_add S x0 v5 (0 : Int32)) fun _ S6 =>
        n_X1_lookAtAll_b31 (n_X1_lookAtAll_b2 n) S6 x0 x1
def n_X1_lookAtAll (S : St) (x0 : Option Nat) : Option (Unit × St) :=
  n_X1_lookAtAll_b2 FU S x0 (0 : Int32)
theorem w_X1_lookAtAll_b31 {K : KT} {r : Unit} {S1 : St} (C : GC K RX1 cX1_lookAtAll 2 8 []) (E : EH (kΓ K) (kHI K) (kl K)) (Q : GQ K none (.inl none) S1) {k2 : St → Option Nat → Int32 → Option (Unit × St)} (h2 : ∀ (S : St) (x0 : Option Nat) (x1 : Int32), k2 S x0 x1 = some (r, S1) → G K 2 S 2 [(0, vR x0), (1, vI x1)] []) : ∀ (S : St) (x0 : Option Nat) (x1 : Int32), n_X1_lookAtAll_b31 k2 S x0 x1 = some (r, S1) → G K 2 S 31 [(0, vR x0), (1, vI x1)] [] := by
  intro S x0 x1 hd
  unfold n_X1_lookAtAll_b31 at hd
  refine g_iinc (v := x1 + 1) (L' := [(1, vI (x1 + 1)), (0, vR x0)]) C dX1_lookAtAll_31 1 rfl rfl (by decide) rfl ?_
  refine g_goto (tgt := 2) C dX1_lookAtAll_34 (by decide) ?_
  refine g_sub [1, 0] rfl ?_
  exact h2 _ _ _ hd
theorem w_X1_lookAtAll_b2 {K : KT} {r : Unit} {S1 : St} (C : GC K RX1 cX1_lookAtAll 2 8 []) (E : EH (kΓ K) (kHI K) (kl K)) (Q : GQ K none (.inl none) S1) : ∀ (n : Nat) (S : St) (x0 : Option Nat) (x1 : Int32), n_X1_lookAtAll_b2 n S x0 x1 = some (r, S1) → G K 2 S 2 [(0, vR x0), (1, vI x1)] [] := by
  intro n
  induction n with
  | zero => intro S x0 x1 hd; cases hd
  | succ n ih =>
    intro S x0 x1 hd
    unfold n_X1_lookAtAll_b2 at hd
    refine g_iload_n C dX1_lookAtAll_2 rfl 1 rfl ?_
    refine g_bipush (v := 60) C dX1_lookAtAll_3 (by decide) ?_
    refine g_icmp_ge (tgt := 37) C dX1_lookAtAll_5 (by decide) hd (fun hd => ?_) (fun hd => ?_)
    · exact g_vret C Q hd dX1_lookAtAll_37
    · refine g_aload_n C dX1_lookAtAll_8 rfl 0 rfl ?_
      obtain ⟨v1, hv1, hd⟩ := Option.bind_eq_some_iff.mp hd
      refine g_fld C gk_X1 (k := 2) (by decide) q387 (Or.inl rfl) dX1_lookAtAll_9 (gR_v hv1) ?_
      refine g_iload_n C dX1_lookAtAll_12 rfl 1 rfl ?_
      obtain ⟨v2, hv2, hd⟩ := Option.bind_eq_some_iff.mp hd
      refine g_aald C 5 (by decide) dX1_lookAtAll_13 hv2 ?_
      refine g_ifnull (tgt := 31) C dX1_lookAtAll_14 (by decide) hd (fun hd => ?_) (fun hd => ?_)
      · refine g_sub [0, 1] rfl ?_
        exact w_X1_lookAtAll_b31 C E Q ih _ _ _ hd
      · refine g_aload_n C dX1_lookAtAll_17 rfl 0 rfl ?_
        refine g_aload_n C dX1_lookAtAll_18 rfl 0 rfl ?_
        obtain ⟨v3, hv3, hd⟩ := Option.bind_eq_some_iff.mp hd
        refine g_fld C gk_X1 (k := 2) (by decide) q387 (Or.inl rfl) dX1_lookAtAll_19 (gR_v hv3) ?_
        refine g_iload_n C dX1_lookAtAll_22 rfl 1 rfl ?_
        obtain ⟨v4, hv4, hd⟩ := Option.bind_eq_some_iff.mp hd
        refine g_aald C 5 (by decide) dX1_lookAtAll_23 hv4 ?_
        obtain ⟨v5, hv5, hd⟩ := Option.bind_eq_some_iff.mp hd
        refine g_fldN C gk_X7 (k := 0) (by decide) q1685 rfl dX1_lookAtAll_24 (gR_v hv5) ?_
        refine g_iconst (v := 0) C dX1_lookAtAll_27 (by decide) ?_
        obtain ⟨hg, hd⟩ := gd_some hd
        obtain ⟨_, S6, hc, hd⟩ := bn_some hd
        refine g_cV_n (n := 2) C (gk_X1).1 q1365 q1367 qs24 q95 q1368 (by decide +kernel) (by decide) (by decide) dX1_lookAtAll_28 (As := [vR v5, vI (0 : Int32)]) (rest := []) rfl rfl (Nat.le_of_ble_eq_true rfl) hg (m_X1_add E hc) ?_
        refine g_sub [0, 1] rfl ?_
        exact w_X1_lookAtAll_b31 C E Q ih _ _ _ hd
theorem w_X1_lookAtAll_b0m {K : KT} {r : Unit} {S1 : St} (C : GC K RX1 cX1_lookAtAll 2 8 []) (E : EH (kΓ K) (kHI K) (kl K)) (Q : GQ K none (.inl none) S1) : ∀ (S : St) (x0 : Option Nat), n_X1_lookAtAll S x0 = some (r, S1) → G K 2 S 0 [(0, vR x0)] [] := by
  intro S x0 hd
  unfold n_X1_lookAtAll at hd
  refine g_iconst (v := 0) C dX1_lookAtAll_0 (by decide) ?_
  refine g_istore_n (L' := [(1, vI (0 : Int32)), (0, vR x0)]) C dX1_lookAtAll_1 rfl (by decide) rfl ?_
  refine g_sub [1, 0] rfl ?_
  exact w_X1_lookAtAll_b2 C E Q FU _ _ _ hd
theorem m_X1_lookAtAll {Γ : GG} {HI : St → Heap → Prop} {l : Launch} (E : EH Γ HI l) {S : St} {a0 : Option Nat} {r : Unit} {S1 : St} (h : n_X1_lookAtAll S a0 = some (r, S1)) : MS Γ HI l yX1_lookAtAll cX1_lookAtAll 2 none 8 S [vR a0] (.inl none) S1 := by
  refine MS_of E.ntr E.hx (by decide +kernel) rfl (Nat.le_of_ble_eq_true rfl) fun K e1 e2 e3 e4 hnm C Q => ?_
  subst e1; subst e2; subst e3
  exact w_X1_lookAtAll_b0m C E Q S a0 h

def n_X1_remove_b99 (k43 : St → Option Nat → Option Nat → Int32 → Int32 → Option ((Int32 ⊕ String) × St)) (S : St) (x0 : Option Nat) (x2 : Option Nat) (x3 : Int32) (x4 : Int32) : Option ((Int32 ⊕ String) × St) :=
  k43 S x0 x2 x3 (x4 + 1)
def n_X1_remove_b96 (k43 : St → Option Nat → Option Nat → Int32 → Int32 → Option ((Int32 ⊕ String) × St)) (S : St) (x0 : Option Nat) (x2 : Option Nat) (x3 : Int32) (x4 : Int32) : Option ((Int32 ⊕ String) × St) :=
  n_X1_remove_b99 k43 S x0 x2 (x3 + 1) x4
def n_X1_remove_b169 (k118 : St → Option Nat → Option Nat → Int32 → Int32 → Option ((Int32 ⊕ String) × St)) (S : St) (x0 : Option Nat) (x2 : Option Nat) (x3 : Int32) (x4 : Int32) (y0 : Int32) (y1 : Option Nat) : Option ((Int32 ⊕ String) × St) :=
  (pI .boolean S y1 1 8 y0).bind fun S1 =>
  k118 S1 x0 x2 x3 (x4 + (-1))
def n_X1_remove_b164 (k118 : St → Option Nat → Option Nat → Int32 → Int32 → Option ((Int32 ⊕ String) × St)) (S : St) (x0 : Option Nat) (x2 : Option Nat) (x3 : Int32) (x4 : Int32) (y0 : Option Nat) : Option ((Int32 ⊕ String) × St) :=
  n_X1_remove_b169 k118 S x0 x2 x3 x4 (1 : Int32) y0
def n_X1_remove_b192 : Nat → St → Option Nat → Int32 → Int32 → Option Nat → Option ((Int32 ⊕ String) × St)
  | 0 => fun _ _ _ _ _ => none
  | n + 1 => fun S x0 x3 x4 x5 =>
    gd (grc S x5 13) <|
    bn (h_J29_hasNext S x5) fun v2 S1 =>
    if v2 = 0 then
      if x4 = 0 then
        rtI Sum.inl (Jvm.ClassFile.FieldType.int) x3 S1
      else
        gd (grc S1 x0 0) <|
        bn (n_X1_lookAtAll S1 x0) fun _ S3 =>
        rtI Sum.inl (Jvm.ClassFile.FieldType.int) x3 S3
    else
      gd (grc S1 x5 13) <|
      bn (h_J29_next S1 x5) fun v6 S5 =>
      gd (gcst S5 v6 4) <|
      (gR S5 v6 4 0).bind fun v7 =>
      (gI S5 v7 1 8).bind fun v8 =>
      if v8 = 0 then
        (n_X1_remove_b192 n) S5 x0 x3 x4 x5
      else
        gd (grc S5 x5 13) <|
        bn (h_J29_remove S5 x5) fun _ S9 =>
        (n_X1_remove_b192 n) S9 x0 x3 (1 : Int32) x5
def n_X1_remove_b118 : Nat → St → Option Nat → Option Nat → Int32 → Int32 → Option ((Int32 ⊕ String) × St)
  | 0 => fun _ _ _ _ _ => none
  | n + 1 => fun S x0 x2 x3 x4 =>
    if x4 < 0 then
      (gR S x0 0 1).bind fun v1 =>
      gd (grc S v1 9) <|
      bn (h_J3_iterator S v1) fun v3 S2 =>
      n_X1_remove_b192 FU S2 x0 x3 (0 : Int32) v3
    else
      (gR S x0 0 0).bind fun v4 =>
      gd (grc S v4 8) <|
      bn (h_J2_get S v4 x4) fun v6 S5 =>
      gd (gcst S5 v6 1) <|
      (gI S5 v6 1 8).bind fun v7 =>
      if v7 = 0 then
        if v6 = x2 then
          n_X1_remove_b164 (n_X1_remove_b118 n) S5 x0 x2 x3 x4 v6
        else
          gd (grc S5 v6 1) <|
          bn (n_X2_isBelow S5 v6 x2) fun v9 S8 =>
          if v9 = 0 then
            n_X1_remove_b169 (n_X1_remove_b118 n) S8 x0 x2 x3 x4 (0 : Int32) v6
          else
            n_X1_remove_b164 (n_X1_remove_b118 n) S8 x0 x2 x3 x4 v6
      else
        n_X1_remove_b164 (n_X1_remove_b118 n) S5 x0 x2 x3 x4 v6
def n_X1_remove_b43 : Nat → St → Option Nat → Option Nat → Int32 → Int32 → Option ((Int32 ⊕ String) × St)
  | 0 => fun _ _ _ _ _ => none
  | n + 1 => fun S x0 x2 x3 x4 =>
    (gR S x0 0 0).bind fun v1 =>
    gd (grc S v1 8) <|
    bn (h_J2_size S v1) fun v3 S2 =>
    if v3 ≤ x4 then
      (gR S2 x0 0 0).bind fun v4 =>
      gd (grc S2 v4 8) <|
      bn (h_J2_size S2 v4) fun v6 S5 =>
      n_X1_remove_b118 FU S5 x0 x2 x3 (v6 - (1 : Int32))
    else
      (gR S2 x0 0 0).bind fun v7 =>
      gd (grc S2 v7 8) <|
      bn (h_J2_get S2 v7 x4) fun v9 S8 =>
      gd (gcst S8 v9 1) <|
      (gI S8 v9 1 8).bind fun v10 =>
      if v10 = 0 then
        if v9 = x2 then
          n_X1_remove_b96 (n_X1_remove_b43 n) S8 x0 x2 x3 x4
        else
          gd (grc S8 v9 1) <|
          bn (n_X2_isBelow S8 v9 x2) fun v12 S11 =>
          if v12 = 0 then
            n_X1_remove_b99 (n_X1_remove_b43 n) S11 x0 x2 x3 x4
          else
            n_X1_remove_b96 (n_X1_remove_b43 n) S11 x0 x2 x3 x4
      else
        n_X1_remove_b99 (n_X1_remove_b43 n) S8 x0 x2 x3 x4
def n_X1_remove_b22 (S : St) (x0 : Option Nat) (x2 : Option Nat) (y0 : Int32) : Option ((Int32 ⊕ String) × St) :=
  tbn (n_X1_need S y0) fun _ S1 =>
  gd (grc S1 x0 0) <|
  bn (n_X1_above S1 x0 x2) fun v4 S3 =>
  gd (grc S3 x0 0) <|
  bn (n_X1_tell S3 x0 v4 (some (S3.2.2.2 3)) x2) fun _ S5 =>
  n_X1_remove_b43 FU S5 x0 x2 (0 : Int32) (0 : Int32)
def n_X1_remove_b21 (S : St) (x0 : Option Nat) (x2 : Option Nat) : Option ((Int32 ⊕ String) × St) :=
  n_X1_remove_b22 S x0 x2 (0 : Int32)
def n_X1_remove (S : St) (x0 : Option Nat) (x1 : Int32) : Option ((Int32 ⊕ String) × St) :=
  gd (grc S x0 0) <|
  bn (n_X1_nodeAt S x0 x1) fun v2 S1 =>
  if v2 = none then
    n_X1_remove_b21 S1 x0 v2
  else
    (gR S1 v2 1 2).bind fun v3 =>
    if v3 = none then
      n_X1_remove_b21 S1 x0 v2
    else
      n_X1_remove_b22 S1 x0 v2 (1 : Int32)
theorem w_X1_remove_b99 {K : KT} {r : (Int32 ⊕ String)} {S1 : St} (C : GC K RX1 cX1_remove 6 9 []) (E : EH (kΓ K) (kHI K) (kl K)) (Q : GQ K (some (Jvm.ClassFile.FieldType.int)) (resI r) S1) {k43 : St → Option Nat → Option Nat → Int32 → Int32 → Option ((Int32 ⊕ String) × St)} (h43 : ∀ (S : St) (x0 : Option Nat) (x2 : Option Nat) (x3 : Int32) (x4 : Int32), k43 S x0 x2 x3 x4 = some (r, S1) → G K 6 S 43 [(0, vR x0), (2, vR x2), (3, vI x3), (4, vI x4)] []) : ∀ (S : St) (x0 : Option Nat) (x2 : Option Nat) (x3 : Int32) (x4 : Int32), n_X1_remove_b99 k43 S x0 x2 x3 x4 = some (r, S1) → G K 6 S 99 [(0, vR x0), (2, vR x2), (3, vI x3), (4, vI x4)] [] := by
  intro S x0 x2 x3 x4 hd
  unfold n_X1_remove_b99 at hd
  refine g_iinc (v := x4 + 1) (L' := [(4, vI (x4 + 1)), (0, vR x0), (2, vR x2), (3, vI x3)]) C dX1_remove_99 3 rfl rfl (by decide) rfl ?_
  refine g_goto (tgt := 43) C dX1_remove_102 (by decide) ?_
  refine g_sub [1, 2, 3, 0] rfl ?_
  exact h43 _ _ _ _ _ hd
theorem w_X1_remove_b96 {K : KT} {r : (Int32 ⊕ String)} {S1 : St} (C : GC K RX1 cX1_remove 6 9 []) (E : EH (kΓ K) (kHI K) (kl K)) (Q : GQ K (some (Jvm.ClassFile.FieldType.int)) (resI r) S1) {k43 : St → Option Nat → Option Nat → Int32 → Int32 → Option ((Int32 ⊕ String) × St)} (h43 : ∀ (S : St) (x0 : Option Nat) (x2 : Option Nat) (x3 : Int32) (x4 : Int32), k43 S x0 x2 x3 x4 = some (r, S1) → G K 6 S 43 [(0, vR x0), (2, vR x2), (3, vI x3), (4, vI x4)] []) : ∀ (S : St) (x0 : Option Nat) (x2 : Option Nat) (x3 : Int32) (x4 : Int32), n_X1_remove_b96 k43 S x0 x2 x3 x4 = some (r, S1) → G K 6 S 96 [(0, vR x0), (2, vR x2), (3, vI x3), (4, vI x4)] [] := by
  intro S x0 x2 x3 x4 hd
  unfold n_X1_remove_b96 at hd
  refine g_iinc (v := x3 + 1) (L' := [(3, vI (x3 + 1)), (0, vR x0), (2, vR x2), (4, vI x4)]) C dX1_remove_96 2 rfl rfl (by decide) rfl ?_
  refine g_sub [1, 2, 0, 3] rfl ?_
  exact w_X1_remove_b99 C E Q h43 _ _ _ _ _ hd
theorem w_X1_remove_b169 {K : KT} {r : (Int32 ⊕ String)} {S1 : St} (C : GC K RX1 cX1_remove 6 9 []) (E : EH (kΓ K) (kHI K) (kl K)) (Q : GQ K (some (Jvm.ClassFile.FieldType.int)) (resI r) S1) {k118 : St → Option Nat → Option Nat → Int32 → Int32 → Option ((Int32 ⊕ String) × St)} (h118 : ∀ (S : St) (x0 : Option Nat) (x2 : Option Nat) (x3 : Int32) (x4 : Int32), k118 S x0 x2 x3 x4 = some (r, S1) → G K 6 S 118 [(0, vR x0), (2, vR x2), (3, vI x3), (4, vI x4)] []) : ∀ (S : St) (x0 : Option Nat) (x2 : Option Nat) (x3 : Int32) (x4 : Int32) (y0 : Int32) (y1 : Option Nat), n_X1_remove_b169 k118 S x0 x2 x3 x4 y0 y1 = some (r, S1) → G K 6 S 169 [(0, vR x0), (2, vR x2), (3, vI x3), (4, vI x4)] [vI y0, vR y1] := by
  intro S x0 x2 x3 x4 y0 y1 hd
  unfold n_X1_remove_b169 at hd
  obtain ⟨S1, hS1, hd⟩ := Option.bind_eq_some_iff.mp hd
  refine g_putN C gk_X2 (k := 8) (by decide) q253 rfl rfl dX1_remove_169 (gfit_ok (pI_v hS1).1).1 (gfit_ok (pI_v hS1).1).2 (pI_v hS1).2 ?_
  refine g_iinc (v := x4 + (-1)) (L' := [(4, vI (x4 + (-1))), (0, vR x0), (2, vR x2), (3, vI x3)]) C dX1_remove_172 3 rfl rfl (by decide) rfl ?_
  refine g_goto (tgt := 118) C dX1_remove_175 (by decide) ?_
  refine g_sub [1, 2, 3, 0] rfl ?_
  exact h118 _ _ _ _ _ hd
theorem w_X1_remove_b164 {K : KT} {r : (Int32 ⊕ String)} {S1 : St} (C : GC K RX1 cX1_remove 6 9 []) (E : EH (kΓ K) (kHI K) (kl K)) (Q : GQ K (some (Jvm.ClassFile.FieldType.int)) (resI r) S1) {k118 : St → Option Nat → Option Nat → Int32 → Int32 → Option ((Int32 ⊕ String) × St)} (h118 : ∀ (S : St) (x0 : Option Nat) (x2 : Option Nat) (x3 : Int32) (x4 : Int32), k118 S x0 x2 x3 x4 = some (r, S1) → G K 6 S 118 [(0, vR x0), (2, vR x2), (3, vI x3), (4, vI x4)] []) : ∀ (S : St) (x0 : Option Nat) (x2 : Option Nat) (x3 : Int32) (x4 : Int32) (y0 : Option Nat), n_X1_remove_b164 k118 S x0 x2 x3 x4 y0 = some (r, S1) → G K 6 S 164 [(0, vR x0), (2, vR x2), (3, vI x3), (4, vI x4)] [vR y0] := by
  intro S x0 x2 x3 x4 y0 hd
  unfold n_X1_remove_b164 at hd
  refine g_iconst (v := 1) C dX1_remove_164 (by decide) ?_
  refine g_goto (tgt := 169) C dX1_remove_165 (by decide) ?_
  refine g_sub [0, 1, 2, 3] rfl ?_
  exact w_X1_remove_b169 C E Q h118 _ _ _ _ _ _ _ hd
theorem w_X1_remove_b192 {K : KT} {r : (Int32 ⊕ String)} {S1 : St} (C : GC K RX1 cX1_remove 6 9 []) (E : EH (kΓ K) (kHI K) (kl K)) (Q : GQ K (some (Jvm.ClassFile.FieldType.int)) (resI r) S1) : ∀ (n : Nat) (S : St) (x0 : Option Nat) (x3 : Int32) (x4 : Int32) (x5 : Option Nat), n_X1_remove_b192 n S x0 x3 x4 x5 = some (r, S1) → G K 6 S 192 [(0, vR x0), (3, vI x3), (4, vI x4), (5, vR x5)] [] := by
  intro n
  induction n with
  | zero => intro S x0 x3 x4 x5 hd; cases hd
  | succ n ih =>
    intro S x0 x3 x4 x5 hd
    unfold n_X1_remove_b192 at hd
    refine g_aload C dX1_remove_192 3 rfl ?_
    obtain ⟨hg, hd⟩ := gd_some hd
    obtain ⟨v2, S1, hc, hd⟩ := bn_some hd
    refine g_cF_v (n := 0) C (gk_J29).1 q925 q951 q949 q129 q953 (List.mem_of_getElem? (i := 12) rfl) (by decide +kernel) (by decide) (by decide) dX1_remove_194 (As := []) (rest := []) rfl rfl (Nat.le_of_ble_eq_true rfl) hg (mh_J29_hasNext E hc) ?_
    refine g_if_eq (tgt := 234) C dX1_remove_199 (by decide) hd (fun hd => ?_) (fun hd => ?_)
    · refine g_iload C dX1_remove_234 2 rfl ?_
      refine g_if_eq (tgt := 243) C dX1_remove_236 (by decide) hd (fun hd => ?_) (fun hd => ?_)
      · refine g_iload_n C dX1_remove_243 rfl 1 rfl ?_
        exact g_iretT C Q hd dX1_remove_244
      · refine g_aload_n C dX1_remove_239 rfl 0 rfl ?_
        obtain ⟨hg, hd⟩ := gd_some hd
        obtain ⟨_, S3, hc, hd⟩ := bn_some hd
        refine g_cV_n (n := 0) C (gk_X1).1 q1361 q1363 qs23 q95 q1364 (by decide +kernel) (by decide) (by decide) dX1_remove_240 (As := []) (rest := []) rfl rfl (Nat.le_of_ble_eq_true rfl) hg (m_X1_lookAtAll E hc) ?_
        refine g_iload_n C dX1_remove_243 rfl 1 rfl ?_
        exact g_iretT C Q hd dX1_remove_244
    · refine g_aload C dX1_remove_202 3 rfl ?_
      obtain ⟨hg, hd⟩ := gd_some hd
      obtain ⟨v6, S5, hc, hd⟩ := bn_some hd
      refine g_cF_v (n := 0) C (gk_J29).1 q955 q1047 q1045 q129 q1049 (List.mem_of_getElem? (i := 13) rfl) (by decide +kernel) (by decide) (by decide) dX1_remove_204 (As := []) (rest := []) rfl rfl (Nat.le_of_ble_eq_true rfl) hg (mh_J29_next E hc) ?_
      refine g_cast C (gk_X6).1 q1055 dX1_remove_209 hd (fun hd => ?_)
      obtain ⟨v7, hv7, hd⟩ := Option.bind_eq_some_iff.mp hd
      refine g_fldN C gk_X6 (k := 0) (by decide) q1437 rfl dX1_remove_212 (gR_v hv7) ?_
      obtain ⟨v8, hv8, hd⟩ := Option.bind_eq_some_iff.mp hd
      refine g_fldN C gk_X2 (k := 8) (by decide) q253 rfl dX1_remove_215 (gI_v hv8) ?_
      refine g_if_eq (tgt := 192) C dX1_remove_218 (by decide) hd (fun hd => ?_) (fun hd => ?_)
      · refine g_sub [0, 1, 2, 3] rfl ?_
        exact ih _ _ _ _ _ hd
      · refine g_aload C dX1_remove_221 3 rfl ?_
        obtain ⟨hg, hd⟩ := gd_some hd
        obtain ⟨_, S9, hc, hd⟩ := bn_some hd
        refine g_cF_n (n := 0) C (gk_J29).1 q1299 q1355 q1353 q129 q1357 (List.mem_of_getElem? (i := 14) rfl) (by decide +kernel) (by decide) (by decide) dX1_remove_223 (As := []) (rest := []) rfl rfl (Nat.le_of_ble_eq_true rfl) hg (mh_J29_remove E hc) ?_
        refine g_iconst (v := 1) C dX1_remove_228 (by decide) ?_
        refine g_istore (L' := [(4, vI (1 : Int32)), (0, vR x0), (3, vI x3), (5, vR x5)]) C dX1_remove_229 (by decide) rfl ?_
        refine g_goto (tgt := 192) C dX1_remove_231 (by decide) ?_
        refine g_sub [1, 2, 0, 3] rfl ?_
        exact ih _ _ _ _ _ hd
theorem w_X1_remove_b118 {K : KT} {r : (Int32 ⊕ String)} {S1 : St} (C : GC K RX1 cX1_remove 6 9 []) (E : EH (kΓ K) (kHI K) (kl K)) (Q : GQ K (some (Jvm.ClassFile.FieldType.int)) (resI r) S1) : ∀ (n : Nat) (S : St) (x0 : Option Nat) (x2 : Option Nat) (x3 : Int32) (x4 : Int32), n_X1_remove_b118 n S x0 x2 x3 x4 = some (r, S1) → G K 6 S 118 [(0, vR x0), (2, vR x2), (3, vI x3), (4, vI x4)] [] := by
  intro n
  induction n with
  | zero => intro S x0 x2 x3 x4 hd; cases hd
  | succ n ih =>
    intro S x0 x2 x3 x4 hd
    unfold n_X1_remove_b118 at hd
    refine g_iload C dX1_remove_118 3 rfl ?_
    refine g_if_lt (tgt := 178) C dX1_remove_120 (by decide) hd (fun hd => ?_) (fun hd => ?_)
    · refine g_iconst (v := 0) C dX1_remove_178 (by decide) ?_
      refine g_istore (L' := [(4, vI (0 : Int32)), (0, vR x0), (2, vR x2), (3, vI x3)]) C dX1_remove_179 (by decide) rfl ?_
      refine g_aload_n C dX1_remove_181 rfl 1 rfl ?_
      obtain ⟨v1, hv1, hd⟩ := Option.bind_eq_some_iff.mp hd
      refine g_fld C gk_X1 (k := 1) (by decide) q386 (Or.inl rfl) dX1_remove_182 (gR_v hv1) ?_
      obtain ⟨hg, hd⟩ := gd_some hd
      obtain ⟨v3, S2, hc, hd⟩ := bn_some hd
      refine g_cF_v (n := 0) C (gk_J4).1 q812 q843 q841 q99 q845 (List.mem_of_getElem? (i := 18) rfl) (by decide +kernel) (by decide) (by decide) dX1_remove_185 (As := []) (rest := []) rfl rfl (Nat.le_of_ble_eq_true rfl) hg (mh_J3_iterator E hc) ?_
      refine g_astore (L' := [(5, vR v3), (4, vI (0 : Int32)), (0, vR x0), (2, vR x2), (3, vI x3)]) C dX1_remove_190 (by decide) rfl ?_
      refine g_sub [2, 4, 1, 0] rfl ?_
      exact w_X1_remove_b192 C E Q FU _ _ _ _ _ hd
    · refine g_aload_n C dX1_remove_123 rfl 0 rfl ?_
      obtain ⟨v4, hv4, hd⟩ := Option.bind_eq_some_iff.mp hd
      refine g_fld C gk_X1 (k := 0) (by decide) q385 (Or.inl rfl) dX1_remove_124 (gR_v hv4) ?_
      refine g_iload C dX1_remove_127 3 rfl ?_
      obtain ⟨hg, hd⟩ := gd_some hd
      obtain ⟨v6, S5, hc, hd⟩ := bn_some hd
      refine g_cF_v (n := 1) C (gk_J2).1 q441 q446 q444 q98 q448 (List.mem_of_getElem? (i := 2) rfl) (by decide +kernel) (by decide) (by decide) dX1_remove_129 (As := [vI x4]) (rest := []) rfl rfl (Nat.le_of_ble_eq_true rfl) hg (mh_J2_get E hc) ?_
      refine g_cast C (gk_X2).1 q231 dX1_remove_134 hd (fun hd => ?_)
      refine g_astore (L' := [(5, vR v6), (0, vR x0), (2, vR x2), (3, vI x3), (4, vI x4)]) C dX1_remove_137 (by decide) rfl ?_
      refine g_aload C dX1_remove_139 0 rfl ?_
      refine g_aload C dX1_remove_141 0 rfl ?_
      obtain ⟨v7, hv7, hd⟩ := Option.bind_eq_some_iff.mp hd
      refine g_fldN C gk_X2 (k := 8) (by decide) q253 rfl dX1_remove_143 (gI_v hv7) ?_
      refine g_if_ne (tgt := 164) C dX1_remove_146 (by decide) hd (fun hd => ?_) (fun hd => ?_)
      · refine g_sub [1, 2, 3, 4] rfl ?_
        exact w_X1_remove_b164 C E Q ih _ _ _ _ _ _ hd
      · refine g_aload C dX1_remove_149 0 rfl ?_
        refine g_aload_n C dX1_remove_151 rfl 2 rfl ?_
        refine g_acmp_eq (tgt := 164) C dX1_remove_152 (by decide) hd (fun hd => ?_) (fun hd => ?_)
        · refine g_sub [1, 2, 3, 4] rfl ?_
          exact w_X1_remove_b164 C E Q ih _ _ _ _ _ _ hd
        · refine g_aload C dX1_remove_155 0 rfl ?_
          refine g_aload_n C dX1_remove_157 rfl 2 rfl ?_
          obtain ⟨hg, hd⟩ := gd_some hd
          obtain ⟨v9, S8, hc, hd⟩ := bn_some hd
          refine g_cV_v (n := 1) C (gk_X2).1 q1084 q1085 q1086 q102 q1087 (by decide +kernel) (by decide) (by decide) dX1_remove_158 (As := [vR x2]) (rest := [vR v6]) rfl rfl (Nat.le_of_ble_eq_true rfl) hg (m_X2_isBelow E hc) ?_
          refine g_if_eq (tgt := 168) C dX1_remove_161 (by decide) hd (fun hd => ?_) (fun hd => ?_)
          · refine g_iconst (v := 0) C dX1_remove_168 (by decide) ?_
            refine g_sub [1, 2, 3, 4] rfl ?_
            exact w_X1_remove_b169 C E Q ih _ _ _ _ _ _ _ hd
          · refine g_sub [1, 2, 3, 4] rfl ?_
            exact w_X1_remove_b164 C E Q ih _ _ _ _ _ _ hd
theorem w_X1_remove_b43 {K : KT} {r : (Int32 ⊕ String)} {S1 : St} (C : GC K RX1 cX1_remove 6 9 []) (E : EH (kΓ K) (kHI K) (kl K)) (Q : GQ K (some (Jvm.ClassFile.FieldType.int)) (resI r) S1) : ∀ (n : Nat) (S : St) (x0 : Option Nat) (x2 : Option Nat) (x3 : Int32) (x4 : Int32), n_X1_remove_b43 n S x0 x2 x3 x4 = some (r, S1) → G K 6 S 43 [(0, vR x0), (2, vR x2), (3, vI x3), (4, vI x4)] [] := by
  intro n
  induction n with
  | zero => intro S x0 x2 x3 x4 hd; cases hd
  | succ n ih =>
    intro S x0 x2 x3 x4 hd
    unfold n_X1_remove_b43 at hd
    refine g_iload C dX1_remove_43 3 rfl ?_
    refine g_aload_n C dX1_remove_45 rfl 0 rfl ?_
    obtain ⟨v1, hv1, hd⟩ := Option.bind_eq_some_iff.mp hd
    refine g_fld C gk_X1 (k := 0) (by decide) q385 (Or.inl rfl) dX1_remove_46 (gR_v hv1) ?_
    obtain ⟨hg, hd⟩ := gd_some hd
    obtain ⟨v3, S2, hc, hd⟩ := bn_some hd
    refine g_cF_v (n := 0) C (gk_J2).1 q427 q432 q430 q98 q434 (List.mem_of_getElem? (i := 1) rfl) (by decide +kernel) (by decide) (by decide) dX1_remove_49 (As := []) (rest := [vI x4]) rfl rfl (Nat.le_of_ble_eq_true rfl) hg (mh_J2_size E hc) ?_
    refine g_icmp_ge (tgt := 105) C dX1_remove_54 (by decide) hd (fun hd => ?_) (fun hd => ?_)
    · refine g_aload_n C dX1_remove_105 rfl 0 rfl ?_
      obtain ⟨v4, hv4, hd⟩ := Option.bind_eq_some_iff.mp hd
      refine g_fld C gk_X1 (k := 0) (by decide) q385 (Or.inl rfl) dX1_remove_106 (gR_v hv4) ?_
      obtain ⟨hg, hd⟩ := gd_some hd
      obtain ⟨v6, S5, hc, hd⟩ := bn_some hd
      refine g_cF_v (n := 0) C (gk_J2).1 q427 q432 q430 q98 q434 (List.mem_of_getElem? (i := 1) rfl) (by decide +kernel) (by decide) (by decide) dX1_remove_109 (As := []) (rest := []) rfl rfl (Nat.le_of_ble_eq_true rfl) hg (mh_J2_size E hc) ?_
      refine g_iconst (v := 1) C dX1_remove_114 (by decide) ?_
      refine g_isub C dX1_remove_115 ?_
      refine g_istore (L' := [(4, vI (v6 - (1 : Int32))), (0, vR x0), (2, vR x2), (3, vI x3)]) C dX1_remove_116 (by decide) rfl ?_
      refine g_sub [1, 2, 3, 0] rfl ?_
      exact w_X1_remove_b118 C E Q FU _ _ _ _ _ hd
    · refine g_aload_n C dX1_remove_57 rfl 0 rfl ?_
      obtain ⟨v7, hv7, hd⟩ := Option.bind_eq_some_iff.mp hd
      refine g_fld C gk_X1 (k := 0) (by decide) q385 (Or.inl rfl) dX1_remove_58 (gR_v hv7) ?_
      refine g_iload C dX1_remove_61 3 rfl ?_
      obtain ⟨hg, hd⟩ := gd_some hd
      obtain ⟨v9, S8, hc, hd⟩ := bn_some hd
      refine g_cF_v (n := 1) C (gk_J2).1 q441 q446 q444 q98 q448 (List.mem_of_getElem? (i := 2) rfl) (by decide +kernel) (by decide) (by decide) dX1_remove_63 (As := [vI x4]) (rest := []) rfl rfl (Nat.le_of_ble_eq_true rfl) hg (mh_J2_get E hc) ?_
      refine g_cast C (gk_X2).1 q231 dX1_remove_68 hd (fun hd => ?_)
      refine g_astore (L' := [(5, vR v9), (0, vR x0), (2, vR x2), (3, vI x3), (4, vI x4)]) C dX1_remove_71 (by decide) rfl ?_
      refine g_aload C dX1_remove_73 0 rfl ?_
      obtain ⟨v10, hv10, hd⟩ := Option.bind_eq_some_iff.mp hd
      refine g_fldN C gk_X2 (k := 8) (by decide) q253 rfl dX1_remove_75 (gI_v hv10) ?_
      refine g_if_ne (tgt := 99) C dX1_remove_78 (by decide) hd (fun hd => ?_) (fun hd => ?_)
      · refine g_sub [1, 2, 3, 4] rfl ?_
        exact w_X1_remove_b99 C E Q ih _ _ _ _ _ hd
      · refine g_aload C dX1_remove_81 0 rfl ?_
        refine g_aload_n C dX1_remove_83 rfl 2 rfl ?_
        refine g_acmp_eq (tgt := 96) C dX1_remove_84 (by decide) hd (fun hd => ?_) (fun hd => ?_)
        · refine g_sub [1, 2, 3, 4] rfl ?_
          exact w_X1_remove_b96 C E Q ih _ _ _ _ _ hd
        · refine g_aload C dX1_remove_87 0 rfl ?_
          refine g_aload_n C dX1_remove_89 rfl 2 rfl ?_
          obtain ⟨hg, hd⟩ := gd_some hd
          obtain ⟨v12, S11, hc, hd⟩ := bn_some hd
          refine g_cV_v (n := 1) C (gk_X2).1 q1084 q1085 q1086 q102 q1087 (by decide +kernel) (by decide) (by decide) dX1_remove_90 (As := [vR x2]) (rest := []) rfl rfl (Nat.le_of_ble_eq_true rfl) hg (m_X2_isBelow E hc) ?_
          refine g_if_eq (tgt := 99) C dX1_remove_93 (by decide) hd (fun hd => ?_) (fun hd => ?_)
          · refine g_sub [1, 2, 3, 4] rfl ?_
            exact w_X1_remove_b99 C E Q ih _ _ _ _ _ hd
          · refine g_sub [1, 2, 3, 4] rfl ?_
            exact w_X1_remove_b96 C E Q ih _ _ _ _ _ hd
theorem w_X1_remove_b22 {K : KT} {r : (Int32 ⊕ String)} {S1 : St} (C : GC K RX1 cX1_remove 6 9 []) (E : EH (kΓ K) (kHI K) (kl K)) (Q : GQ K (some (Jvm.ClassFile.FieldType.int)) (resI r) S1) : ∀ (S : St) (x0 : Option Nat) (x2 : Option Nat) (y0 : Int32), n_X1_remove_b22 S x0 x2 y0 = some (r, S1) → G K 6 S 22 [(0, vR x0), (2, vR x2)] [vI y0] := by
  intro S x0 x2 y0 hd
  unfold n_X1_remove_b22 at hd
  rcases tbn_some hd with ⟨X9, S1, hc, hz⟩ | ⟨_, S1, hc, hd⟩
  · cases hz; exact g_cS_x (n := 1) C q1133 q1134 q95 q1135 (by decide +kernel) (by decide) (by decide) dX1_remove_22 (As := [vI y0]) (rest := []) rfl rfl (Nat.le_of_ble_eq_true rfl) (m_X1_need E hc) (g_out C Q)
  refine g_cS_n (n := 1) C q1133 q1134 q95 q1135 (by decide +kernel) (by decide) (by decide) dX1_remove_22 (As := [vI y0]) (rest := []) rfl rfl (Nat.le_of_ble_eq_true rfl) (m_X1_need E hc) ?_
  refine g_aload_n C dX1_remove_25 rfl 0 rfl ?_
  refine g_aload_n C dX1_remove_26 rfl 0 rfl ?_
  refine g_aload_n C dX1_remove_27 rfl 1 rfl ?_
  obtain ⟨hg, hd⟩ := gd_some hd
  obtain ⟨v4, S3, hc, hd⟩ := bn_some hd
  refine g_cV_v (n := 1) C (gk_X1).1 q1080 q1082 qs14 q95 q1083 (by decide +kernel) (by decide) (by decide) dX1_remove_28 (As := [vR x2]) (rest := [vR x0]) rfl rfl (Nat.le_of_ble_eq_true rfl) hg (m_X1_above E hc) ?_
  refine g_getsR C 3 (fun lv => (C lv).hk.2.2.2.2.1.2.2.2.2) q1289 rfl dX1_remove_31 ?_
  refine g_aload_n C dX1_remove_34 rfl 1 rfl ?_
  obtain ⟨hg, hd⟩ := gd_some hd
  obtain ⟨_, S5, hc, hd⟩ := bn_some hd
  refine g_cV_n (n := 3) C (gk_X1).1 q1182 q1184 qs18 q95 q1185 (by decide +kernel) (by decide) (by decide) dX1_remove_35 (As := [vR v4, vR (some (S3.2.2.2 3)), vR x2]) (rest := []) rfl rfl (Nat.le_of_ble_eq_true rfl) hg (m_X1_tell E hc) ?_
  refine g_iconst (v := 0) C dX1_remove_38 (by decide) ?_
  refine g_istore_n (L' := [(3, vI (0 : Int32)), (0, vR x0), (2, vR x2)]) C dX1_remove_39 rfl (by decide) rfl ?_
  refine g_iconst (v := 0) C dX1_remove_40 (by decide) ?_
  refine g_istore (L' := [(4, vI (0 : Int32)), (3, vI (0 : Int32)), (0, vR x0), (2, vR x2)]) C dX1_remove_41 (by decide) rfl ?_
  refine g_sub [2, 3, 1, 0] rfl ?_
  exact w_X1_remove_b43 C E Q FU _ _ _ _ _ hd
theorem w_X1_remove_b21 {K : KT} {r : (Int32 ⊕ String)} {S1 : St} (C : GC K RX1 cX1_remove 6 9 []) (E : EH (kΓ K) (kHI K) (kl K)) (Q : GQ K (some (Jvm.ClassFile.FieldType.int)) (resI r) S1) : ∀ (S : St) (x0 : Option Nat) (x2 : Option Nat), n_X1_remove_b21 S x0 x2 = some (r, S1) → G K 6 S 21 [(0, vR x0), (2, vR x2)] [] := by
  intro S x0 x2 hd
  unfold n_X1_remove_b21 at hd
  refine g_iconst (v := 0) C dX1_remove_21 (by decide) ?_
  refine g_sub [0, 1] rfl ?_
  exact w_X1_remove_b22 C E Q _ _ _ _ hd
theorem w_X1_remove_b0m {K : KT} {r : (Int32 ⊕ String)} {S1 : St} (C : GC K RX1 cX1_remove 6 9 []) (E : EH (kΓ K) (kHI K) (kl K)) (Q : GQ K (some (Jvm.ClassFile.FieldType.int)) (resI r) S1) : ∀ (S : St) (x0 : Option Nat) (x1 : Int32), n_X1_remove S x0 x1 = some (r, S1) → G K 6 S 0 [(0, vR x0), (1, vI x1)] [] := by
  intro S x0 x1 hd
  unfold n_X1_remove at hd
  refine g_aload_n C dX1_remove_0 rfl 0 rfl ?_
  refine g_iload_n C dX1_remove_1 rfl 1 rfl ?_
  obtain ⟨hg, hd⟩ := gd_some hd
  obtain ⟨v2, S1, hc, hd⟩ := bn_some hd
  refine g_cV_v (n := 1) C (gk_X1).1 q1126 q1128 qs16 q95 q1129 (by decide +kernel) (by decide) (by decide) dX1_remove_2 (As := [vI x1]) (rest := []) rfl rfl (Nat.le_of_ble_eq_true rfl) hg (m_X1_nodeAt E hc) ?_
  refine g_astore_n (L' := [(2, vR v2), (0, vR x0), (1, vI x1)]) C dX1_remove_5 rfl (by decide) rfl ?_
  refine g_aload_n C dX1_remove_6 rfl 0 rfl ?_
  refine g_ifnull (tgt := 21) C dX1_remove_7 (by decide) hd (fun hd => ?_) (fun hd => ?_)
  · refine g_sub [1, 0] rfl ?_
    exact w_X1_remove_b21 C E Q _ _ _ hd
  · refine g_aload_n C dX1_remove_10 rfl 0 rfl ?_
    obtain ⟨v3, hv3, hd⟩ := Option.bind_eq_some_iff.mp hd
    refine g_fldN C gk_X2 (k := 2) (by decide) q244 rfl dX1_remove_11 (gR_v hv3) ?_
    refine g_ifnull (tgt := 21) C dX1_remove_14 (by decide) hd (fun hd => ?_) (fun hd => ?_)
    · refine g_sub [1, 0] rfl ?_
      exact w_X1_remove_b21 C E Q _ _ _ hd
    · refine g_iconst (v := 1) C dX1_remove_17 (by decide) ?_
      refine g_goto (tgt := 22) C dX1_remove_18 (by decide) ?_
      refine g_sub [1, 0] rfl ?_
      exact w_X1_remove_b22 C E Q _ _ _ _ hd
theorem m_X1_remove {Γ : GG} {HI : St → Heap → Prop} {l : Launch} (E : EH Γ HI l) {S : St} {a0 : Option Nat} {a1 : Int32} {r : (Int32 ⊕ String)} {S1 : St} (h : n_X1_remove S a0 a1 = some (r, S1)) : MS Γ HI l yX1_remove cX1_remove 6 (some (Jvm.ClassFile.FieldType.int)) 9 S [vR a0, vI a1] (resI r) S1 := by
  refine MS_of E.ntr E.hx (by decide +kernel) rfl (Nat.le_of_ble_eq_true rfl) fun K e1 e2 e3 e4 hnm C Q => ?_
  subst e1; subst e2; subst e3
  exact w_X1_remove_b0m C E Q S a0 a1 h

def n_X1_lock (S : St) (x0 : Option Nat) (x1 : Int32) (x2 : Int32) : Option ((Int32 ⊕ String) × St) :=
  gd (grc S x0 0) <|
  tbn (n_X1_fileAt S x0 x1) fun v2 S1 =>
  (gI S1 v2 1 6).bind fun v3 =>
  (pI .boolean S1 v2 1 6 x2).bind fun S4 =>
  rtI Sum.inl (Jvm.ClassFile.FieldType.boolean) v3 S4
theorem w_X1_lock_b0m {K : KT} {r : (Int32 ⊕ String)} {S1 : St} (C : GC K RX1 cX1_lock 5 10 []) (E : EH (kΓ K) (kHI K) (kl K)) (Q : GQ K (some (Jvm.ClassFile.FieldType.boolean)) (resI r) S1) : ∀ (S : St) (x0 : Option Nat) (x1 : Int32) (x2 : Int32), n_X1_lock S x0 x1 x2 = some (r, S1) → G K 5 S 0 [(0, vR x0), (1, vI x1), (2, vI x2)] [] := by
  intro S x0 x1 x2 hd
  unfold n_X1_lock at hd
  refine g_aload_n C dX1_lock_0 rfl 0 rfl ?_
  refine g_iload_n C dX1_lock_1 rfl 1 rfl ?_
  obtain ⟨hg, hd⟩ := gd_some hd
  rcases tbn_some hd with ⟨X9, S1, hc, hz⟩ | ⟨v2, S1, hc, hd⟩
  · cases hz; exact g_cV_x (n := 1) C (gk_X1).1 q1221 q1223 qs19 q95 q1224 (by decide +kernel) (by decide) (by decide) dX1_lock_2 (As := [vI x1]) (rest := []) rfl rfl (Nat.le_of_ble_eq_true rfl) hg (m_X1_fileAt E hc) (g_out C Q)
  refine g_cV_v (n := 1) C (gk_X1).1 q1221 q1223 qs19 q95 q1224 (by decide +kernel) (by decide) (by decide) dX1_lock_2 (As := [vI x1]) (rest := []) rfl rfl (Nat.le_of_ble_eq_true rfl) hg (m_X1_fileAt E hc) ?_
  refine g_astore_n (L' := [(3, vR v2), (0, vR x0), (1, vI x1), (2, vI x2)]) C dX1_lock_5 rfl (by decide) rfl ?_
  refine g_aload_n C dX1_lock_6 rfl 0 rfl ?_
  obtain ⟨v3, hv3, hd⟩ := Option.bind_eq_some_iff.mp hd
  refine g_fldN C gk_X2 (k := 6) (by decide) q250 rfl dX1_lock_7 (gI_v hv3) ?_
  refine g_istore (L' := [(4, vI v3), (3, vR v2), (0, vR x0), (1, vI x1), (2, vI x2)]) C dX1_lock_10 (by decide) rfl ?_
  refine g_aload_n C dX1_lock_12 rfl 1 rfl ?_
  refine g_iload_n C dX1_lock_13 rfl 4 rfl ?_
  obtain ⟨S4, hS4, hd⟩ := Option.bind_eq_some_iff.mp hd
  refine g_putN C gk_X2 (k := 6) (by decide) q250 rfl rfl dX1_lock_14 (gfit_ok (pI_v hS4).1).1 (gfit_ok (pI_v hS4).1).2 (pI_v hS4).2 ?_
  refine g_iload C dX1_lock_17 0 rfl ?_
  exact g_iretT C Q hd dX1_lock_19
theorem m_X1_lock {Γ : GG} {HI : St → Heap → Prop} {l : Launch} (E : EH Γ HI l) {S : St} {a0 : Option Nat} {a1 : Int32} {a2 : Int32} {r : (Int32 ⊕ String)} {S1 : St} (h : n_X1_lock S a0 a1 a2 = some (r, S1)) : MS Γ HI l yX1_lock cX1_lock 5 (some (Jvm.ClassFile.FieldType.boolean)) 10 S [vR a0, vI a1, vI a2] (resI r) S1 := by
  refine MS_of E.ntr E.hx (by decide +kernel) rfl (Nat.le_of_ble_eq_true rfl) fun K e1 e2 e3 e4 hnm C Q => ?_
  subst e1; subst e2; subst e3
  exact w_X1_lock_b0m C E Q S a0 a1 a2 h

def n_X1_people_b15 (S : St) (x2 : Int32) (x3 : Option Nat) (y0 : Int32) : Option ((Int32 ⊕ String) × St) :=
  tbn (n_X1_need S y0) fun _ S1 =>
  bn (n_X1_isIn S1 x2 (0 : Int32) (15 : Int32)) fun v4 S3 =>
  tbn (n_X1_check S3 v4) fun _ S5 =>
  (gI S5 x3 1 7).bind fun v7 =>
  (pI .int S5 x3 1 7 x2).bind fun S8 =>
  rtI Sum.inl (Jvm.ClassFile.FieldType.int) v7 S8
def n_X1_people (S : St) (x0 : Option Nat) (x1 : Int32) (x2 : Int32) : Option ((Int32 ⊕ String) × St) :=
  gd (grc S x0 0) <|
  bn (n_X1_nodeAt S x0 x1) fun v2 S1 =>
  if v2 = none then
    n_X1_people_b15 S1 x2 v2 (0 : Int32)
  else
    n_X1_people_b15 S1 x2 v2 (1 : Int32)
theorem w_X1_people_b15 {K : KT} {r : (Int32 ⊕ String)} {S1 : St} (C : GC K RX1 cX1_people 5 9 []) (E : EH (kΓ K) (kHI K) (kl K)) (Q : GQ K (some (Jvm.ClassFile.FieldType.int)) (resI r) S1) : ∀ (S : St) (x2 : Int32) (x3 : Option Nat) (y0 : Int32), n_X1_people_b15 S x2 x3 y0 = some (r, S1) → G K 5 S 15 [(2, vI x2), (3, vR x3)] [vI y0] := by
  intro S x2 x3 y0 hd
  unfold n_X1_people_b15 at hd
  rcases tbn_some hd with ⟨X9, S1, hc, hz⟩ | ⟨_, S1, hc, hd⟩
  · cases hz; exact g_cS_x (n := 1) C q1133 q1134 q95 q1135 (by decide +kernel) (by decide) (by decide) dX1_people_15 (As := [vI y0]) (rest := []) rfl rfl (Nat.le_of_ble_eq_true rfl) (m_X1_need E hc) (g_out C Q)
  refine g_cS_n (n := 1) C q1133 q1134 q95 q1135 (by decide +kernel) (by decide) (by decide) dX1_people_15 (As := [vI y0]) (rest := []) rfl rfl (Nat.le_of_ble_eq_true rfl) (m_X1_need E hc) ?_
  refine g_iload_n C dX1_people_18 rfl 0 rfl ?_
  refine g_iconst (v := 0) C dX1_people_19 (by decide) ?_
  refine g_bipush (v := 15) C dX1_people_20 (by decide) ?_
  obtain ⟨v4, S3, hc, hd⟩ := bn_some hd
  refine g_cS_v (n := 3) C q1130 q1131 q95 q1132 (by decide +kernel) (by decide) (by decide) dX1_people_22 (As := [vI x2, vI (0 : Int32), vI (15 : Int32)]) (rest := []) rfl rfl (Nat.le_of_ble_eq_true rfl) (m_X1_isIn E hc) ?_
  rcases tbn_some hd with ⟨X9, S5, hc, hz⟩ | ⟨_, S5, hc, hd⟩
  · cases hz; exact g_cS_x (n := 1) C q1150 q1151 q95 q1152 (by decide +kernel) (by decide) (by decide) dX1_people_25 (As := [vI v4]) (rest := []) rfl rfl (Nat.le_of_ble_eq_true rfl) (m_X1_check E hc) (g_out C Q)
  refine g_cS_n (n := 1) C q1150 q1151 q95 q1152 (by decide +kernel) (by decide) (by decide) dX1_people_25 (As := [vI v4]) (rest := []) rfl rfl (Nat.le_of_ble_eq_true rfl) (m_X1_check E hc) ?_
  refine g_aload_n C dX1_people_28 rfl 1 rfl ?_
  obtain ⟨v7, hv7, hd⟩ := Option.bind_eq_some_iff.mp hd
  refine g_fldN C gk_X2 (k := 7) (by decide) q252 rfl dX1_people_29 (gI_v hv7) ?_
  refine g_istore (L' := [(4, vI v7), (2, vI x2), (3, vR x3)]) C dX1_people_32 (by decide) rfl ?_
  refine g_aload_n C dX1_people_34 rfl 2 rfl ?_
  refine g_iload_n C dX1_people_35 rfl 1 rfl ?_
  obtain ⟨S8, hS8, hd⟩ := Option.bind_eq_some_iff.mp hd
  refine g_putN C gk_X2 (k := 7) (by decide) q252 rfl rfl dX1_people_36 (gfit_ok (pI_v hS8).1).1 (gfit_ok (pI_v hS8).1).2 (pI_v hS8).2 ?_
  refine g_iload C dX1_people_39 0 rfl ?_
  exact g_iretT C Q hd dX1_people_41
theorem w_X1_people_b0m {K : KT} {r : (Int32 ⊕ String)} {S1 : St} (C : GC K RX1 cX1_people 5 9 []) (E : EH (kΓ K) (kHI K) (kl K)) (Q : GQ K (some (Jvm.ClassFile.FieldType.int)) (resI r) S1) : ∀ (S : St) (x0 : Option Nat) (x1 : Int32) (x2 : Int32), n_X1_people S x0 x1 x2 = some (r, S1) → G K 5 S 0 [(0, vR x0), (1, vI x1), (2, vI x2)] [] := by
  intro S x0 x1 x2 hd
  unfold n_X1_people at hd
  refine g_aload_n C dX1_people_0 rfl 0 rfl ?_
  refine g_iload_n C dX1_people_1 rfl 1 rfl ?_
  obtain ⟨hg, hd⟩ := gd_some hd
  obtain ⟨v2, S1, hc, hd⟩ := bn_some hd
  refine g_cV_v (n := 1) C (gk_X1).1 q1126 q1128 qs16 q95 q1129 (by decide +kernel) (by decide) (by decide) dX1_people_2 (As := [vI x1]) (rest := []) rfl rfl (Nat.le_of_ble_eq_true rfl) hg (m_X1_nodeAt E hc) ?_
  refine g_astore_n (L' := [(3, vR v2), (0, vR x0), (1, vI x1), (2, vI x2)]) C dX1_people_5 rfl (by decide) rfl ?_
  refine g_aload_n C dX1_people_6 rfl 0 rfl ?_
  refine g_ifnull (tgt := 14) C dX1_people_7 (by decide) hd (fun hd => ?_) (fun hd => ?_)
  · refine g_iconst (v := 0) C dX1_people_14 (by decide) ?_
    refine g_sub [3, 0] rfl ?_
    exact w_X1_people_b15 C E Q _ _ _ _ hd
  · refine g_iconst (v := 1) C dX1_people_10 (by decide) ?_
    refine g_goto (tgt := 15) C dX1_people_11 (by decide) ?_
    refine g_sub [3, 0] rfl ?_
    exact w_X1_people_b15 C E Q _ _ _ _ hd
theorem m_X1_people {Γ : GG} {HI : St → Heap → Prop} {l : Launch} (E : EH Γ HI l) {S : St} {a0 : Option Nat} {a1 : Int32} {a2 : Int32} {r : (Int32 ⊕ String)} {S1 : St} (h : n_X1_people S a0 a1 a2 = some (r, S1)) : MS Γ HI l yX1_people cX1_people 5 (some (Jvm.ClassFile.FieldType.int)) 9 S [vR a0, vI a1, vI a2] (resI r) S1 := by
  refine MS_of E.ntr E.hx (by decide +kernel) rfl (Nat.le_of_ble_eq_true rfl) fun K e1 e2 e3 e4 hnm C Q => ?_
  subst e1; subst e2; subst e3
  exact w_X1_people_b0m C E Q S a0 a1 a2 h

def n_X2_mayBeRead_b29 (k4 : St → Int32 → Int32 → Option Nat → Option (Int32 × St)) (S : St) (x1 : Int32) (x3 : Option Nat) (y0 : Int32) : Option (Int32 × St) :=
  (gR S x3 1 2).bind fun v1 =>
  k4 S x1 y0 v1
def n_X2_mayBeRead_b28 (k4 : St → Int32 → Int32 → Option Nat → Option (Int32 × St)) (S : St) (x1 : Int32) (x3 : Option Nat) : Option (Int32 × St) :=
  n_X2_mayBeRead_b29 k4 S x1 x3 (0 : Int32)
def n_X2_mayBeRead_b4 : Nat → St → Int32 → Int32 → Option Nat → Option (Int32 × St)
  | 0 => fun _ _ _ _ => none
  | n + 1 => fun S x1 x2 x3 =>
    if x3 = none then
      rtI id (Jvm.ClassFile.FieldType.boolean) x2 S
    else
      if x2 = 0 then
        n_X2_mayBeRead_b28 (n_X2_mayBeRead_b4 n) S x1 x3
      else
        (gI S x3 1 7).bind fun v1 =>
        if ((v1 >>> (x1 &&& 31)) &&& (1 : Int32)) = (1 : Int32) then
          n_X2_mayBeRead_b29 (n_X2_mayBeRead_b4 n) S x1 x3 (1 : Int32)
        else
          n_X2_mayBeRead_b28 (n_X2_mayBeRead_b4 n) S x1 x3
def n_X2_mayBeRead (S : St) (x0 : Option Nat) (x1 : Int32) : Option (Int32 × St) :=
  n_X2_mayBeRead_b4 FU S x1 (1 : Int32) x0
theorem w_X2_mayBeRead_b29 {K : KT} {r : Int32} {S1 : St} (C : GC K RX2 cX2_mayBeRead 4 2 []) (E : EH (kΓ K) (kHI K) (kl K)) (Q : GQ K (some (Jvm.ClassFile.FieldType.boolean)) (.inl (some (vI r))) S1) {k4 : St → Int32 → Int32 → Option Nat → Option (Int32 × St)} (h4 : ∀ (S : St) (x1 : Int32) (x2 : Int32) (x3 : Option Nat), k4 S x1 x2 x3 = some (r, S1) → G K 4 S 4 [(1, vI x1), (2, vI x2), (3, vR x3)] []) : ∀ (S : St) (x1 : Int32) (x3 : Option Nat) (y0 : Int32), n_X2_mayBeRead_b29 k4 S x1 x3 y0 = some (r, S1) → G K 4 S 29 [(1, vI x1), (3, vR x3)] [vI y0] := by
  intro S x1 x3 y0 hd
  unfold n_X2_mayBeRead_b29 at hd
  refine g_istore_n (L' := [(2, vI y0), (1, vI x1), (3, vR x3)]) C dX2_mayBeRead_29 rfl (by decide) rfl ?_
  refine g_aload_n C dX2_mayBeRead_30 rfl 2 rfl ?_
  obtain ⟨v1, hv1, hd⟩ := Option.bind_eq_some_iff.mp hd
  refine g_fld C gk_X2 (k := 2) (by decide) q243 (Or.inl rfl) dX2_mayBeRead_31 (gR_v hv1) ?_
  refine g_astore_n (L' := [(3, vR v1), (2, vI y0), (1, vI x1)]) C dX2_mayBeRead_34 rfl (by decide) rfl ?_
  refine g_goto (tgt := 4) C dX2_mayBeRead_35 (by decide) ?_
  refine g_sub [2, 1, 0] rfl ?_
  exact h4 _ _ _ _ hd
theorem w_X2_mayBeRead_b28 {K : KT} {r : Int32} {S1 : St} (C : GC K RX2 cX2_mayBeRead 4 2 []) (E : EH (kΓ K) (kHI K) (kl K)) (Q : GQ K (some (Jvm.ClassFile.FieldType.boolean)) (.inl (some (vI r))) S1) {k4 : St → Int32 → Int32 → Option Nat → Option (Int32 × St)} (h4 : ∀ (S : St) (x1 : Int32) (x2 : Int32) (x3 : Option Nat), k4 S x1 x2 x3 = some (r, S1) → G K 4 S 4 [(1, vI x1), (2, vI x2), (3, vR x3)] []) : ∀ (S : St) (x1 : Int32) (x3 : Option Nat), n_X2_mayBeRead_b28 k4 S x1 x3 = some (r, S1) → G K 4 S 28 [(1, vI x1), (3, vR x3)] [] := by
  intro S x1 x3 hd
  unfold n_X2_mayBeRead_b28 at hd
  refine g_iconst (v := 0) C dX2_mayBeRead_28 (by decide) ?_
  refine g_sub [0, 1] rfl ?_
  exact w_X2_mayBeRead_b29 C E Q h4 _ _ _ _ hd
theorem w_X2_mayBeRead_b4 {K : KT} {r : Int32} {S1 : St} (C : GC K RX2 cX2_mayBeRead 4 2 []) (E : EH (kΓ K) (kHI K) (kl K)) (Q : GQ K (some (Jvm.ClassFile.FieldType.boolean)) (.inl (some (vI r))) S1) : ∀ (n : Nat) (S : St) (x1 : Int32) (x2 : Int32) (x3 : Option Nat), n_X2_mayBeRead_b4 n S x1 x2 x3 = some (r, S1) → G K 4 S 4 [(1, vI x1), (2, vI x2), (3, vR x3)] [] := by
  intro n
  induction n with
  | zero => intro S x1 x2 x3 hd; cases hd
  | succ n ih =>
    intro S x1 x2 x3 hd
    unfold n_X2_mayBeRead_b4 at hd
    refine g_aload_n C dX2_mayBeRead_4 rfl 2 rfl ?_
    refine g_ifnull (tgt := 38) C dX2_mayBeRead_5 (by decide) hd (fun hd => ?_) (fun hd => ?_)
    · refine g_iload_n C dX2_mayBeRead_38 rfl 1 rfl ?_
      exact g_iret C Q hd dX2_mayBeRead_39
    · refine g_iload_n C dX2_mayBeRead_8 rfl 1 rfl ?_
      refine g_if_eq (tgt := 28) C dX2_mayBeRead_9 (by decide) hd (fun hd => ?_) (fun hd => ?_)
      · refine g_sub [0, 2] rfl ?_
        exact w_X2_mayBeRead_b28 C E Q ih _ _ _ hd
      · refine g_aload_n C dX2_mayBeRead_12 rfl 2 rfl ?_
        obtain ⟨v1, hv1, hd⟩ := Option.bind_eq_some_iff.mp hd
        refine g_fld C gk_X2 (k := 7) (by decide) q251 (Or.inl rfl) dX2_mayBeRead_13 (gI_v hv1) ?_
        refine g_iload_n C dX2_mayBeRead_16 rfl 0 rfl ?_
        refine g_ishr C dX2_mayBeRead_17 ?_
        refine g_iconst (v := 1) C dX2_mayBeRead_18 (by decide) ?_
        refine g_iand C dX2_mayBeRead_19 ?_
        refine g_iconst (v := 1) C dX2_mayBeRead_20 (by decide) ?_
        refine g_icmp_ne (tgt := 28) C dX2_mayBeRead_21 (by decide) hd (fun hd => ?_) (fun hd => ?_)
        · refine g_sub [0, 2] rfl ?_
          exact w_X2_mayBeRead_b28 C E Q ih _ _ _ hd
        · refine g_iconst (v := 1) C dX2_mayBeRead_24 (by decide) ?_
          refine g_goto (tgt := 29) C dX2_mayBeRead_25 (by decide) ?_
          refine g_sub [0, 2] rfl ?_
          exact w_X2_mayBeRead_b29 C E Q ih _ _ _ _ hd
theorem w_X2_mayBeRead_b0m {K : KT} {r : Int32} {S1 : St} (C : GC K RX2 cX2_mayBeRead 4 2 []) (E : EH (kΓ K) (kHI K) (kl K)) (Q : GQ K (some (Jvm.ClassFile.FieldType.boolean)) (.inl (some (vI r))) S1) : ∀ (S : St) (x0 : Option Nat) (x1 : Int32), n_X2_mayBeRead S x0 x1 = some (r, S1) → G K 4 S 0 [(0, vR x0), (1, vI x1)] [] := by
  intro S x0 x1 hd
  unfold n_X2_mayBeRead at hd
  refine g_iconst (v := 1) C dX2_mayBeRead_0 (by decide) ?_
  refine g_istore_n (L' := [(2, vI (1 : Int32)), (0, vR x0), (1, vI x1)]) C dX2_mayBeRead_1 rfl (by decide) rfl ?_
  refine g_aload_n C dX2_mayBeRead_2 rfl 1 rfl ?_
  refine g_astore_n (L' := [(3, vR x0), (2, vI (1 : Int32)), (0, vR x0), (1, vI x1)]) C dX2_mayBeRead_3 rfl (by decide) rfl ?_
  refine g_sub [3, 1, 0] rfl ?_
  exact w_X2_mayBeRead_b4 C E Q FU _ _ _ _ hd
theorem m_X2_mayBeRead {Γ : GG} {HI : St → Heap → Prop} {l : Launch} (E : EH Γ HI l) {S : St} {a0 : Option Nat} {a1 : Int32} {r : Int32} {S1 : St} (h : n_X2_mayBeRead S a0 a1 = some (r, S1)) : MS Γ HI l yX2_mayBeRead cX2_mayBeRead 4 (some (Jvm.ClassFile.FieldType.boolean)) 2 S [vR a0, vI a1] (.inl (some (vI r))) S1 := by
  refine MS_of E.ntr E.hx (by decide +kernel) rfl (Nat.le_of_ble_eq_true rfl) fun K e1 e2 e3 e4 hnm C Q => ?_
  subst e1; subst e2; subst e3
  exact w_X2_mayBeRead_b0m C E Q S a0 a1 h

def n_X1_checkPerson (S : St) (x0 : Int32) : Option ((Unit ⊕ String) × St) :=
  bn (n_X1_isIn S x0 (0 : Int32) (3 : Int32)) fun v2 S1 =>
  tbn (n_X1_need S1 v2) fun _ S3 =>
  some (Sum.inl (), S3)
theorem w_X1_checkPerson_b0m {K : KT} {r : (Unit ⊕ String)} {S1 : St} (C : GC K RX1 cX1_checkPerson 1 9 []) (E : EH (kΓ K) (kHI K) (kl K)) (Q : GQ K none (resV r) S1) : ∀ (S : St) (x0 : Int32), n_X1_checkPerson S x0 = some (r, S1) → G K 1 S 0 [(0, vI x0)] [] := by
  intro S x0 hd
  unfold n_X1_checkPerson at hd
  refine g_iload_n C dX1_checkPerson_0 rfl 0 rfl ?_
  refine g_iconst (v := 0) C dX1_checkPerson_1 (by decide) ?_
  refine g_iconst (v := 3) C dX1_checkPerson_2 (by decide) ?_
  obtain ⟨v2, S1, hc, hd⟩ := bn_some hd
  refine g_cS_v (n := 3) C q1130 q1131 q95 q1132 (by decide +kernel) (by decide) (by decide) dX1_checkPerson_3 (As := [vI x0, vI (0 : Int32), vI (3 : Int32)]) (rest := []) rfl rfl (Nat.le_of_ble_eq_true rfl) (m_X1_isIn E hc) ?_
  rcases tbn_some hd with ⟨X9, S3, hc, hz⟩ | ⟨_, S3, hc, hd⟩
  · cases hz; exact g_cS_x (n := 1) C q1133 q1134 q95 q1135 (by decide +kernel) (by decide) (by decide) dX1_checkPerson_6 (As := [vI v2]) (rest := []) rfl rfl (Nat.le_of_ble_eq_true rfl) (m_X1_need E hc) (g_out C Q)
  refine g_cS_n (n := 1) C q1133 q1134 q95 q1135 (by decide +kernel) (by decide) (by decide) dX1_checkPerson_6 (As := [vI v2]) (rest := []) rfl rfl (Nat.le_of_ble_eq_true rfl) (m_X1_need E hc) ?_
  exact g_vretT C Q hd dX1_checkPerson_9
theorem m_X1_checkPerson {Γ : GG} {HI : St → Heap → Prop} {l : Launch} (E : EH Γ HI l) {S : St} {a0 : Int32} {r : (Unit ⊕ String)} {S1 : St} (h : n_X1_checkPerson S a0 = some (r, S1)) : MS Γ HI l yX1_checkPerson cX1_checkPerson 1 none 9 S [vI a0] (resV r) S1 := by
  refine MS_of E.ntr E.hx (by decide +kernel) rfl (Nat.le_of_ble_eq_true rfl) fun K e1 e2 e3 e4 hnm C Q => ?_
  subst e1; subst e2; subst e3
  exact w_X1_checkPerson_b0m C E Q S a0 h

def n_X1_mayRead_b19 (S : St) (x1 : Int32) (x3 : Option Nat) (y0 : Int32) : Option ((Int32 ⊕ String) × St) :=
  tbn (n_X1_need S y0) fun _ S1 =>
  gd (grc S1 x3 1) <|
  bn (n_X2_mayBeRead S1 x3 x1) fun v4 S3 =>
  rtI Sum.inl (Jvm.ClassFile.FieldType.boolean) v4 S3
def n_X1_mayRead (S : St) (x0 : Option Nat) (x1 : Int32) (x2 : Int32) : Option ((Int32 ⊕ String) × St) :=
  tbn (n_X1_checkPerson S x1) fun _ S1 =>
  gd (grc S1 x0 0) <|
  bn (n_X1_nodeAt S1 x0 x2) fun v4 S3 =>
  if v4 = none then
    n_X1_mayRead_b19 S3 x1 v4 (0 : Int32)
  else
    n_X1_mayRead_b19 S3 x1 v4 (1 : Int32)
theorem w_X1_mayRead_b19 {K : KT} {r : (Int32 ⊕ String)} {S1 : St} (C : GC K RX1 cX1_mayRead 4 10 []) (E : EH (kΓ K) (kHI K) (kl K)) (Q : GQ K (some (Jvm.ClassFile.FieldType.boolean)) (resI r) S1) : ∀ (S : St) (x1 : Int32) (x3 : Option Nat) (y0 : Int32), n_X1_mayRead_b19 S x1 x3 y0 = some (r, S1) → G K 4 S 19 [(1, vI x1), (3, vR x3)] [vI y0] := by
  intro S x1 x3 y0 hd
  unfold n_X1_mayRead_b19 at hd
  rcases tbn_some hd with ⟨X9, S1, hc, hz⟩ | ⟨_, S1, hc, hd⟩
  · cases hz; exact g_cS_x (n := 1) C q1133 q1134 q95 q1135 (by decide +kernel) (by decide) (by decide) dX1_mayRead_19 (As := [vI y0]) (rest := []) rfl rfl (Nat.le_of_ble_eq_true rfl) (m_X1_need E hc) (g_out C Q)
  refine g_cS_n (n := 1) C q1133 q1134 q95 q1135 (by decide +kernel) (by decide) (by decide) dX1_mayRead_19 (As := [vI y0]) (rest := []) rfl rfl (Nat.le_of_ble_eq_true rfl) (m_X1_need E hc) ?_
  refine g_aload_n C dX1_mayRead_22 rfl 1 rfl ?_
  refine g_iload_n C dX1_mayRead_23 rfl 0 rfl ?_
  obtain ⟨hg, hd⟩ := gd_some hd
  obtain ⟨v4, S3, hc, hd⟩ := bn_some hd
  refine g_cV_v (n := 1) C (gk_X2).1 q1416 q1417 q1418 q102 q1419 (by decide +kernel) (by decide) (by decide) dX1_mayRead_24 (As := [vI x1]) (rest := []) rfl rfl (Nat.le_of_ble_eq_true rfl) hg (m_X2_mayBeRead E hc) ?_
  exact g_iretT C Q hd dX1_mayRead_27
theorem w_X1_mayRead_b0m {K : KT} {r : (Int32 ⊕ String)} {S1 : St} (C : GC K RX1 cX1_mayRead 4 10 []) (E : EH (kΓ K) (kHI K) (kl K)) (Q : GQ K (some (Jvm.ClassFile.FieldType.boolean)) (resI r) S1) : ∀ (S : St) (x0 : Option Nat) (x1 : Int32) (x2 : Int32), n_X1_mayRead S x0 x1 x2 = some (r, S1) → G K 4 S 0 [(0, vR x0), (1, vI x1), (2, vI x2)] [] := by
  intro S x0 x1 x2 hd
  unfold n_X1_mayRead at hd
  refine g_iload_n C dX1_mayRead_0 rfl 1 rfl ?_
  rcases tbn_some hd with ⟨X9, S1, hc, hz⟩ | ⟨_, S1, hc, hd⟩
  · cases hz; exact g_cS_x (n := 1) C q1413 q1414 q95 q1415 (by decide +kernel) (by decide) (by decide) dX1_mayRead_1 (As := [vI x1]) (rest := []) rfl rfl (Nat.le_of_ble_eq_true rfl) (m_X1_checkPerson E hc) (g_out C Q)
  refine g_cS_n (n := 1) C q1413 q1414 q95 q1415 (by decide +kernel) (by decide) (by decide) dX1_mayRead_1 (As := [vI x1]) (rest := []) rfl rfl (Nat.le_of_ble_eq_true rfl) (m_X1_checkPerson E hc) ?_
  refine g_aload_n C dX1_mayRead_4 rfl 0 rfl ?_
  refine g_iload_n C dX1_mayRead_5 rfl 2 rfl ?_
  obtain ⟨hg, hd⟩ := gd_some hd
  obtain ⟨v4, S3, hc, hd⟩ := bn_some hd
  refine g_cV_v (n := 1) C (gk_X1).1 q1126 q1128 qs16 q95 q1129 (by decide +kernel) (by decide) (by decide) dX1_mayRead_6 (As := [vI x2]) (rest := []) rfl rfl (Nat.le_of_ble_eq_true rfl) hg (m_X1_nodeAt E hc) ?_
  refine g_astore_n (L' := [(3, vR v4), (0, vR x0), (1, vI x1), (2, vI x2)]) C dX1_mayRead_9 rfl (by decide) rfl ?_
  refine g_aload_n C dX1_mayRead_10 rfl 0 rfl ?_
  refine g_ifnull (tgt := 18) C dX1_mayRead_11 (by decide) hd (fun hd => ?_) (fun hd => ?_)
  · refine g_iconst (v := 0) C dX1_mayRead_18 (by decide) ?_
    refine g_sub [2, 0] rfl ?_
    exact w_X1_mayRead_b19 C E Q _ _ _ _ hd
  · refine g_iconst (v := 1) C dX1_mayRead_14 (by decide) ?_
    refine g_goto (tgt := 19) C dX1_mayRead_15 (by decide) ?_
    refine g_sub [2, 0] rfl ?_
    exact w_X1_mayRead_b19 C E Q _ _ _ _ hd
theorem m_X1_mayRead {Γ : GG} {HI : St → Heap → Prop} {l : Launch} (E : EH Γ HI l) {S : St} {a0 : Option Nat} {a1 : Int32} {a2 : Int32} {r : (Int32 ⊕ String)} {S1 : St} (h : n_X1_mayRead S a0 a1 a2 = some (r, S1)) : MS Γ HI l yX1_mayRead cX1_mayRead 4 (some (Jvm.ClassFile.FieldType.boolean)) 10 S [vR a0, vI a1, vI a2] (resI r) S1 := by
  refine MS_of E.ntr E.hx (by decide +kernel) rfl (Nat.le_of_ble_eq_true rfl) fun K e1 e2 e3 e4 hnm C Q => ?_
  subst e1; subst e2; subst e3
  exact w_X1_mayRead_b0m C E Q S a0 a1 a2 h

def n_X1_nodes_b42 (k4 : St → Option Nat → Int32 → Int32 → Option (Int32 × St)) (S : St) (x0 : Option Nat) (x2 : Int32) (y0 : Int32) (y1 : Int32) : Option (Int32 × St) :=
  k4 S x0 (y1 + y0) (x2 + 1)
def n_X1_nodes_b4 : Nat → St → Option Nat → Int32 → Int32 → Option (Int32 × St)
  | 0 => fun _ _ _ _ => none
  | n + 1 => fun S x0 x1 x2 =>
    (gR S x0 0 0).bind fun v1 =>
    gd (grc S v1 8) <|
    bn (h_J2_size S v1) fun v3 S2 =>
    if v3 ≤ x2 then
      rtI id (Jvm.ClassFile.FieldType.int) x1 S2
    else
      (gR S2 x0 0 0).bind fun v4 =>
      gd (grc S2 v4 8) <|
      bn (h_J2_get S2 v4 x2) fun v6 S5 =>
      gd (gcst S5 v6 1) <|
      (gI S5 v6 1 8).bind fun v7 =>
      if v7 = 0 then
        n_X1_nodes_b42 (n_X1_nodes_b4 n) S5 x0 x2 (1 : Int32) x1
      else
        n_X1_nodes_b42 (n_X1_nodes_b4 n) S5 x0 x2 (0 : Int32) x1
def n_X1_nodes (S : St) (x0 : Option Nat) : Option (Int32 × St) :=
  n_X1_nodes_b4 FU S x0 (0 : Int32) (0 : Int32)
theorem w_X1_nodes_b42 {K : KT} {r : Int32} {S1 : St} (C : GC K RX1 cX1_nodes 3 5 []) (E : EH (kΓ K) (kHI K) (kl K)) (Q : GQ K (some (Jvm.ClassFile.FieldType.int)) (.inl (some (vI r))) S1) {k4 : St → Option Nat → Int32 → Int32 → Option (Int32 × St)} (h4 : ∀ (S : St) (x0 : Option Nat) (x1 : Int32) (x2 : Int32), k4 S x0 x1 x2 = some (r, S1) → G K 3 S 4 [(0, vR x0), (1, vI x1), (2, vI x2)] []) : ∀ (S : St) (x0 : Option Nat) (x2 : Int32) (y0 : Int32) (y1 : Int32), n_X1_nodes_b42 k4 S x0 x2 y0 y1 = some (r, S1) → G K 3 S 42 [(0, vR x0), (2, vI x2)] [vI y0, vI y1] := by
  intro S x0 x2 y0 y1 hd
  unfold n_X1_nodes_b42 at hd
  refine g_iadd C dX1_nodes_42 ?_
  refine g_istore_n (L' := [(1, vI (y1 + y0)), (0, vR x0), (2, vI x2)]) C dX1_nodes_43 rfl (by decide) rfl ?_
  refine g_iinc (v := x2 + 1) (L' := [(2, vI (x2 + 1)), (1, vI (y1 + y0)), (0, vR x0)]) C dX1_nodes_44 2 rfl rfl (by decide) rfl ?_
  refine g_goto (tgt := 4) C dX1_nodes_47 (by decide) ?_
  refine g_sub [2, 1, 0] rfl ?_
  exact h4 _ _ _ _ hd
theorem w_X1_nodes_b4 {K : KT} {r : Int32} {S1 : St} (C : GC K RX1 cX1_nodes 3 5 []) (E : EH (kΓ K) (kHI K) (kl K)) (Q : GQ K (some (Jvm.ClassFile.FieldType.int)) (.inl (some (vI r))) S1) : ∀ (n : Nat) (S : St) (x0 : Option Nat) (x1 : Int32) (x2 : Int32), n_X1_nodes_b4 n S x0 x1 x2 = some (r, S1) → G K 3 S 4 [(0, vR x0), (1, vI x1), (2, vI x2)] [] := by
  intro n
  induction n with
  | zero => intro S x0 x1 x2 hd; cases hd
  | succ n ih =>
    intro S x0 x1 x2 hd
    unfold n_X1_nodes_b4 at hd
    refine g_iload_n C dX1_nodes_4 rfl 2 rfl ?_
    refine g_aload_n C dX1_nodes_5 rfl 0 rfl ?_
    obtain ⟨v1, hv1, hd⟩ := Option.bind_eq_some_iff.mp hd
    refine g_fld C gk_X1 (k := 0) (by decide) q385 (Or.inl rfl) dX1_nodes_6 (gR_v hv1) ?_
    obtain ⟨hg, hd⟩ := gd_some hd
    obtain ⟨v3, S2, hc, hd⟩ := bn_some hd
    refine g_cF_v (n := 0) C (gk_J2).1 q427 q432 q430 q98 q434 (List.mem_of_getElem? (i := 1) rfl) (by decide +kernel) (by decide) (by decide) dX1_nodes_9 (As := []) (rest := [vI x2]) rfl rfl (Nat.le_of_ble_eq_true rfl) hg (mh_J2_size E hc) ?_
    refine g_icmp_ge (tgt := 50) C dX1_nodes_14 (by decide) hd (fun hd => ?_) (fun hd => ?_)
    · refine g_iload_n C dX1_nodes_50 rfl 1 rfl ?_
      exact g_iret C Q hd dX1_nodes_51
    · refine g_iload_n C dX1_nodes_17 rfl 1 rfl ?_
      refine g_aload_n C dX1_nodes_18 rfl 0 rfl ?_
      obtain ⟨v4, hv4, hd⟩ := Option.bind_eq_some_iff.mp hd
      refine g_fld C gk_X1 (k := 0) (by decide) q385 (Or.inl rfl) dX1_nodes_19 (gR_v hv4) ?_
      refine g_iload_n C dX1_nodes_22 rfl 2 rfl ?_
      obtain ⟨hg, hd⟩ := gd_some hd
      obtain ⟨v6, S5, hc, hd⟩ := bn_some hd
      refine g_cF_v (n := 1) C (gk_J2).1 q441 q446 q444 q98 q448 (List.mem_of_getElem? (i := 2) rfl) (by decide +kernel) (by decide) (by decide) dX1_nodes_23 (As := [vI x2]) (rest := [vI x1]) rfl rfl (Nat.le_of_ble_eq_true rfl) hg (mh_J2_get E hc) ?_
      refine g_cast C (gk_X2).1 q231 dX1_nodes_28 hd (fun hd => ?_)
      obtain ⟨v7, hv7, hd⟩ := Option.bind_eq_some_iff.mp hd
      refine g_fldN C gk_X2 (k := 8) (by decide) q253 rfl dX1_nodes_31 (gI_v hv7) ?_
      refine g_if_eq (tgt := 41) C dX1_nodes_34 (by decide) hd (fun hd => ?_) (fun hd => ?_)
      · refine g_iconst (v := 1) C dX1_nodes_41 (by decide) ?_
        refine g_sub [0, 2] rfl ?_
        exact w_X1_nodes_b42 C E Q ih _ _ _ _ _ hd
      · refine g_iconst (v := 0) C dX1_nodes_37 (by decide) ?_
        refine g_goto (tgt := 42) C dX1_nodes_38 (by decide) ?_
        refine g_sub [0, 2] rfl ?_
        exact w_X1_nodes_b42 C E Q ih _ _ _ _ _ hd
theorem w_X1_nodes_b0m {K : KT} {r : Int32} {S1 : St} (C : GC K RX1 cX1_nodes 3 5 []) (E : EH (kΓ K) (kHI K) (kl K)) (Q : GQ K (some (Jvm.ClassFile.FieldType.int)) (.inl (some (vI r))) S1) : ∀ (S : St) (x0 : Option Nat), n_X1_nodes S x0 = some (r, S1) → G K 3 S 0 [(0, vR x0)] [] := by
  intro S x0 hd
  unfold n_X1_nodes at hd
  refine g_iconst (v := 0) C dX1_nodes_0 (by decide) ?_
  refine g_istore_n (L' := [(1, vI (0 : Int32)), (0, vR x0)]) C dX1_nodes_1 rfl (by decide) rfl ?_
  refine g_iconst (v := 0) C dX1_nodes_2 (by decide) ?_
  refine g_istore_n (L' := [(2, vI (0 : Int32)), (1, vI (0 : Int32)), (0, vR x0)]) C dX1_nodes_3 rfl (by decide) rfl ?_
  refine g_sub [2, 1, 0] rfl ?_
  exact w_X1_nodes_b4 C E Q FU _ _ _ _ hd
theorem m_X1_nodes {Γ : GG} {HI : St → Heap → Prop} {l : Launch} (E : EH Γ HI l) {S : St} {a0 : Option Nat} {r : Int32} {S1 : St} (h : n_X1_nodes S a0 = some (r, S1)) : MS Γ HI l yX1_nodes cX1_nodes 3 (some (Jvm.ClassFile.FieldType.int)) 5 S [vR a0] (.inl (some (vI r))) S1 := by
  refine MS_of E.ntr E.hx (by decide +kernel) rfl (Nat.le_of_ble_eq_true rfl) fun K e1 e2 e3 e4 hnm C Q => ?_
  subst e1; subst e2; subst e3
  exact w_X1_nodes_b0m C E Q S a0 h

