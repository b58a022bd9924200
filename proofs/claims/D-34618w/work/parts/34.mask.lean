/-! the reference: answers, answersAnew, answer, closest -/
def n_X3_often_b38 (k5 : St → Option Nat → Int32 → Int32 → Int32 → Int32 → Option (Int32 × St)) (S : St) (x0 : Option Nat) (x1 : Int32) (x2 : Int32) (x4 : Int32) (y0 : Int32) (y1 : Int32) : Option (Int32 × St) :=
  k5 S x0 x1 x2 (y1 + y0) (x4 + 1)
def n_X3_often_b5 : Nat → St → Option Nat → Int32 → Int32 → Int32 → Int32 → Option (Int32 × St)
  | 0 => fun _ _ _ _ _ _ => none
  | n + 1 => fun S x0 x1 x2 x3 x4 =>
    (gR S x0 15 26).bind fun v1 =>
    (aI S v1 0 x1).bind fun v2 =>
    if v2 ≤ x4 then
      rtI id (Jvm.ClassFile.FieldType.int) x3 S
    else
      (gR S x0 15 27).bind fun v3 =>
      (aI S v3 0 (((20 : Int32) * x1) + x4)).bind fun v4 =>
      if v4 = x2 then
        n_X3_often_b38 (n_X3_often_b5 n) S x0 x1 x2 x4 (1 : Int32) x3
      else
        n_X3_often_b38 (n_X3_often_b5 n) S x0 x1 x2 x4 (0 : Int32) x3
def n_X3_often (S : St) (x0 : Option Nat) (x1 : Int32) (x2 : Int32) : Option (Int32 × St) :=
  n_X3_often_b5 FU S x0 x1 x2 (0 : Int32) (0 : Int32)
theorem w_X3_often_b38 {K : KT} {r : Int32} {S1 : St} (C : GC K RX3 cX3_often 5 2 []) (E : EH (kΓ K) (kHI K) (kl K)) (Q : GQ K (some (Jvm.ClassFile.FieldType.int)) (.inl (some (vI r))) S1) {k5 : St → Option Nat → Int32 → Int32 → Int32 → Int32 → Option (Int32 × St)} (h5 : ∀ (S : St) (x0 : Option Nat) (x1 : Int32) (x2 : Int32) (x3 : Int32) (x4 : Int32), k5 S x0 x1 x2 x3 x4 = some (r, S1) → G K 5 S 5 [(0, vR x0), (1, vI x1), (2, vI x2), (3, vI x3), (4, vI x4)] []) : ∀ (S : St) (x0 : Option Nat) (x1 : Int32) (x2 : Int32) (x4 : Int32) (y0 : Int32) (y1 : Int32), n_X3_often_b38 k5 S x0 x1 x2 x4 y0 y1 = some (r, S1) → G K 5 S 38 [(0, vR x0), (1, vI x1), (2, vI x2), (4, vI x4)] [vI y0, vI y1] := by
  intro S x0 x1 x2 x4 y0 y1 hd
  unfold n_X3_often_b38 at hd
  refine g_iadd C dX3_often_38 ?_
  refine g_istore_n (L' := [(3, vI (y1 + y0)), (0, vR x0), (1, vI x1), (2, vI x2), (4, vI x4)]) C dX3_often_39 rfl (by decide) rfl ?_
  refine g_iinc (v := x4 + 1) (L' := [(4, vI (x4 + 1)), (3, vI (y1 + y0)), (0, vR x0), (1, vI x1), (2, vI x2)]) C dX3_often_40 4 rfl rfl (by decide) rfl ?_
  refine g_goto (tgt := 5) C dX3_often_43 (by decide) ?_
  refine g_sub [2, 3, 4, 1, 0] rfl ?_
  exact h5 _ _ _ _ _ _ hd
theorem w_X3_often_b5 {K : KT} {r : Int32} {S1 : St} (C : GC K RX3 cX3_often 5 2 []) (E : EH (kΓ K) (kHI K) (kl K)) (Q : GQ K (some (Jvm.ClassFile.FieldType.int)) (.inl (some (vI r))) S1) : ∀ (n : Nat) (S : St) (x0 : Option Nat) (x1 : Int32) (x2 : Int32) (x3 : Int32) (x4 : Int32), n_X3_often_b5 n S x0 x1 x2 x3 x4 = some (r, S1) → G K 5 S 5 [(0, vR x0), (1, vI x1), (2, vI x2), (3, vI x3), (4, vI x4)] [] := by
  intro n
  induction n with
  | zero => intro S x0 x1 x2 x3 x4 hd; cases hd
  | succ n ih =>
    intro S x0 x1 x2 x3 x4 hd
    unfold n_X3_often_b5 at hd
    refine g_iload C dX3_often_5 4 rfl ?_
    refine g_aload_n C dX3_often_7 rfl 0 rfl ?_
    obtain ⟨v1, hv1, hd⟩ := Option.bind_eq_some_iff.mp hd
    refine g_fld C gk_X3 (k := 26) (by decide) q1992 (Or.inl rfl) dX3_often_8 (gR_v hv1) ?_
    refine g_iload_n C dX3_often_11 rfl 1 rfl ?_
    obtain ⟨v2, hv2, hd⟩ := Option.bind_eq_some_iff.mp hd
    refine g_ialdV C dX3_often_12 hv2 ?_
    refine g_icmp_ge (tgt := 46) C dX3_often_13 (by decide) hd (fun hd => ?_) (fun hd => ?_)
    · refine g_iload_n C dX3_often_46 rfl 3 rfl ?_
      exact g_iret C Q hd dX3_often_47
    · refine g_iload_n C dX3_often_16 rfl 3 rfl ?_
      refine g_aload_n C dX3_often_17 rfl 0 rfl ?_
      obtain ⟨v3, hv3, hd⟩ := Option.bind_eq_some_iff.mp hd
      refine g_fld C gk_X3 (k := 27) (by decide) q1993 (Or.inl rfl) dX3_often_18 (gR_v hv3) ?_
      refine g_bipush (v := 20) C dX3_often_21 (by decide) ?_
      refine g_iload_n C dX3_often_23 rfl 1 rfl ?_
      refine g_imul C dX3_often_24 ?_
      refine g_iload C dX3_often_25 4 rfl ?_
      refine g_iadd C dX3_often_27 ?_
      obtain ⟨v4, hv4, hd⟩ := Option.bind_eq_some_iff.mp hd
      refine g_ialdV C dX3_often_28 hv4 ?_
      refine g_iload_n C dX3_often_29 rfl 2 rfl ?_
      refine g_icmp_ne (tgt := 37) C dX3_often_30 (by decide) hd (fun hd => ?_) (fun hd => ?_)
      · refine g_iconst (v := 0) C dX3_often_37 (by decide) ?_
        refine g_sub [0, 1, 2, 4] rfl ?_
        exact w_X3_often_b38 C E Q ih _ _ _ _ _ _ _ hd
      · refine g_iconst (v := 1) C dX3_often_33 (by decide) ?_
        refine g_goto (tgt := 38) C dX3_often_34 (by decide) ?_
        refine g_sub [0, 1, 2, 4] rfl ?_
        exact w_X3_often_b38 C E Q ih _ _ _ _ _ _ _ hd
theorem w_X3_often_b0m {K : KT} {r : Int32} {S1 : St} (C : GC K RX3 cX3_often 5 2 []) (E : EH (kΓ K) (kHI K) (kl K)) (Q : GQ K (some (Jvm.ClassFile.FieldType.int)) (.inl (some (vI r))) S1) : ∀ (S : St) (x0 : Option Nat) (x1 : Int32) (x2 : Int32), n_X3_often S x0 x1 x2 = some (r, S1) → G K 5 S 0 [(0, vR x0), (1, vI x1), (2, vI x2)] [] := by
  intro S x0 x1 x2 hd
  unfold n_X3_often at hd
  refine g_iconst (v := 0) C dX3_often_0 (by decide) ?_
  refine g_istore_n (L' := [(3, vI (0 : Int32)), (0, vR x0), (1, vI x1), (2, vI x2)]) C dX3_often_1 rfl (by decide) rfl ?_
  refine g_iconst (v := 0) C dX3_often_2 (by decide) ?_
  refine g_istore (L' := [(4, vI (0 : Int32)), (3, vI (0 : Int32)), (0, vR x0), (1, vI x1), (2, vI x2)]) C dX3_often_3 (by decide) rfl ?_
  refine g_sub [2, 3, 4, 1, 0] rfl ?_
  exact w_X3_often_b5 C E Q FU _ _ _ _ _ _ hd
theorem m_X3_often {Γ : GG} {HI : St → Heap → Prop} {l : Launch} (E : EH Γ HI l) {S : St} {a0 : Option Nat} {a1 : Int32} {a2 : Int32} {r : Int32} {S1 : St} (h : n_X3_often S a0 a1 a2 = some (r, S1)) : MS Γ HI l yX3_often cX3_often 5 (some (Jvm.ClassFile.FieldType.int)) 2 S [vR a0, vI a1, vI a2] (.inl (some (vI r))) S1 := by
  refine MS_of E.ntr E.hx (by decide +kernel) rfl (Nat.le_of_ble_eq_true rfl) fun K e1 e2 e3 e4 hnm C Q => ?_
  subst e1; subst e2; subst e3
  exact w_X3_often_b0m C E Q S a0 a1 a2 h

def n_X3_has_b41 (S : St) : Option (Int32 × St) :=
  rtI id (Jvm.ClassFile.FieldType.boolean) (1 : Int32) S
def n_X3_has (S : St) (x0 : Option Nat) (x1 : Int32) (x2 : Int32) (x3 : Int32) : Option (Int32 × St) :=
  (gR S x0 15 22).bind fun v1 =>
  (aI S v1 1 x1).bind fun v2 =>
  if v2 = 0 then
    rtI id (Jvm.ClassFile.FieldType.boolean) (0 : Int32) S
  else
    (gR S x0 15 4).bind fun v3 =>
    (aI S v3 1 x1).bind fun v4 =>
    if v4 = 0 then
      gd (grc S x0 15) <|
      bn (n_X3_often S x0 x1 x2) fun v6 S5 =>
      if v6 ≤ 0 then
        rtI id (Jvm.ClassFile.FieldType.boolean) (0 : Int32) S5
      else
        if x3 = (-1 : Int32) then
          n_X3_has_b41 S5
        else
          gd (grc S5 x0 15) <|
          bn (n_X3_often S5 x0 x1 x3) fun v8 S7 =>
          if v8 ≤ 0 then
            rtI id (Jvm.ClassFile.FieldType.boolean) (0 : Int32) S7
          else
            n_X3_has_b41 S7
    else
      rtI id (Jvm.ClassFile.FieldType.boolean) (0 : Int32) S
theorem w_X3_has_b41 {K : KT} {r : Int32} {S1 : St} (C : GC K RX3 cX3_has 4 3 []) (E : EH (kΓ K) (kHI K) (kl K)) (Q : GQ K (some (Jvm.ClassFile.FieldType.boolean)) (.inl (some (vI r))) S1) : ∀ (S : St), n_X3_has_b41 S = some (r, S1) → G K 4 S 41 [] [] := by
  intro S hd
  unfold n_X3_has_b41 at hd
  refine g_iconst (v := 1) C dX3_has_41 (by decide) ?_
  refine g_goto (tgt := 46) C dX3_has_42 (by decide) ?_
  exact g_iret C Q hd dX3_has_46
theorem w_X3_has_b0m {K : KT} {r : Int32} {S1 : St} (C : GC K RX3 cX3_has 4 3 []) (E : EH (kΓ K) (kHI K) (kl K)) (Q : GQ K (some (Jvm.ClassFile.FieldType.boolean)) (.inl (some (vI r))) S1) : ∀ (S : St) (x0 : Option Nat) (x1 : Int32) (x2 : Int32) (x3 : Int32), n_X3_has S x0 x1 x2 x3 = some (r, S1) → G K 4 S 0 [(0, vR x0), (1, vI x1), (2, vI x2), (3, vI x3)] [] := by
  intro S x0 x1 x2 x3 hd
  unfold n_X3_has at hd
  refine g_aload_n C dX3_has_0 rfl 0 rfl ?_
  obtain ⟨v1, hv1, hd⟩ := Option.bind_eq_some_iff.mp hd
  refine g_fld C gk_X3 (k := 22) (by decide) q1988 (Or.inl rfl) dX3_has_1 (gR_v hv1) ?_
  refine g_iload_n C dX3_has_4 rfl 1 rfl ?_
  obtain ⟨v2, hv2, hd⟩ := Option.bind_eq_some_iff.mp hd
  refine g_zaldV C dX3_has_5 hv2 ?_
  refine g_if_eq (tgt := 45) C dX3_has_6 (by decide) hd (fun hd => ?_) (fun hd => ?_)
  · refine g_iconst (v := 0) C dX3_has_45 (by decide) ?_
    exact g_iret C Q hd dX3_has_46
  · refine g_aload_n C dX3_has_9 rfl 0 rfl ?_
    obtain ⟨v3, hv3, hd⟩ := Option.bind_eq_some_iff.mp hd
    refine g_fld C gk_X3 (k := 4) (by decide) q1970 (Or.inl rfl) dX3_has_10 (gR_v hv3) ?_
    refine g_iload_n C dX3_has_13 rfl 1 rfl ?_
    obtain ⟨v4, hv4, hd⟩ := Option.bind_eq_some_iff.mp hd
    refine g_zaldV C dX3_has_14 hv4 ?_
    refine g_if_ne (tgt := 45) C dX3_has_15 (by decide) hd (fun hd => ?_) (fun hd => ?_)
    · refine g_iconst (v := 0) C dX3_has_45 (by decide) ?_
      exact g_iret C Q hd dX3_has_46
    · refine g_aload_n C dX3_has_18 rfl 0 rfl ?_
      refine g_iload_n C dX3_has_19 rfl 1 rfl ?_
      refine g_iload_n C dX3_has_20 rfl 2 rfl ?_
      obtain ⟨hg, hd⟩ := gd_some hd
      obtain ⟨v6, S5, hc, hd⟩ := bn_some hd
      refine g_cV_v (n := 2) C (gk_X3).1 q2384 q2386 qs92 q108 q2387 (by decide +kernel) (by decide) (by decide) dX3_has_21 (As := [vI x1, vI x2]) (rest := []) rfl rfl (Nat.le_of_ble_eq_true rfl) hg (m_X3_often E hc) ?_
      refine g_if_le (tgt := 45) C dX3_has_24 (by decide) hd (fun hd => ?_) (fun hd => ?_)
      · refine g_iconst (v := 0) C dX3_has_45 (by decide) ?_
        exact g_iret C Q hd dX3_has_46
      · refine g_iload_n C dX3_has_27 rfl 3 rfl ?_
        refine g_iconst (v := (-1)) C dX3_has_28 (by decide) ?_
        refine g_icmp_eq (tgt := 41) C dX3_has_29 (by decide) hd (fun hd => ?_) (fun hd => ?_)
        · refine g_sub [] rfl ?_
          exact w_X3_has_b41 C E Q _ hd
        · refine g_aload_n C dX3_has_32 rfl 0 rfl ?_
          refine g_iload_n C dX3_has_33 rfl 1 rfl ?_
          refine g_iload_n C dX3_has_34 rfl 3 rfl ?_
          obtain ⟨hg, hd⟩ := gd_some hd
          obtain ⟨v8, S7, hc, hd⟩ := bn_some hd
          refine g_cV_v (n := 2) C (gk_X3).1 q2384 q2386 qs92 q108 q2387 (by decide +kernel) (by decide) (by decide) dX3_has_35 (As := [vI x1, vI x3]) (rest := []) rfl rfl (Nat.le_of_ble_eq_true rfl) hg (m_X3_often E hc) ?_
          refine g_if_le (tgt := 45) C dX3_has_38 (by decide) hd (fun hd => ?_) (fun hd => ?_)
          · refine g_iconst (v := 0) C dX3_has_45 (by decide) ?_
            exact g_iret C Q hd dX3_has_46
          · refine g_sub [] rfl ?_
            exact w_X3_has_b41 C E Q _ hd
theorem m_X3_has {Γ : GG} {HI : St → Heap → Prop} {l : Launch} (E : EH Γ HI l) {S : St} {a0 : Option Nat} {a1 : Int32} {a2 : Int32} {a3 : Int32} {r : Int32} {S1 : St} (h : n_X3_has S a0 a1 a2 a3 = some (r, S1)) : MS Γ HI l yX3_has cX3_has 4 (some (Jvm.ClassFile.FieldType.boolean)) 3 S [vR a0, vI a1, vI a2, vI a3] (.inl (some (vI r))) S1 := by
  refine MS_of E.ntr E.hx (by decide +kernel) rfl (Nat.le_of_ble_eq_true rfl) fun K e1 e2 e3 e4 hnm C Q => ?_
  subst e1; subst e2; subst e3
  exact w_X3_has_b0m C E Q S a0 a1 a2 a3 h

def n_X3_isAnswer_b36 (S : St) (x0 : Option Nat) (x1 : Int32) (x2 : Int32) : Option (Int32 × St) :=
  gd (grc S x0 15) <|
  bn (n_X3_mayReadAt S x0 x2 x1) fun v2 S1 =>
  if v2 = 0 then
    rtI id (Jvm.ClassFile.FieldType.boolean) (0 : Int32) S1
  else
    rtI id (Jvm.ClassFile.FieldType.boolean) (1 : Int32) S1
def n_X3_isAnswer (S : St) (x0 : Option Nat) (x1 : Int32) (x2 : Int32) (x3 : Int32) (x4 : Int32) (x5 : Int32) : Option (Int32 × St) :=
  (gR S x0 15 3).bind fun v1 =>
  (aI S v1 1 x1).bind fun v2 =>
  if v2 = 0 then
    rtI id (Jvm.ClassFile.FieldType.boolean) (0 : Int32) S
  else
    gd (grc S x0 15) <|
    bn (n_X3_has S x0 x1 x3 x4) fun v4 S3 =>
    if v4 = 0 then
      rtI id (Jvm.ClassFile.FieldType.boolean) (0 : Int32) S3
    else
      if x5 = (-1 : Int32) then
        n_X3_isAnswer_b36 S3 x0 x1 x2
      else
        gd (grc S3 x0 15) <|
        bn (n_X3_liesBelow S3 x0 x1 x5) fun v6 S5 =>
        if v6 = 0 then
          rtI id (Jvm.ClassFile.FieldType.boolean) (0 : Int32) S5
        else
          n_X3_isAnswer_b36 S5 x0 x1 x2
theorem w_X3_isAnswer_b36 {K : KT} {r : Int32} {S1 : St} (C : GC K RX3 cX3_isAnswer 6 4 []) (E : EH (kΓ K) (kHI K) (kl K)) (Q : GQ K (some (Jvm.ClassFile.FieldType.boolean)) (.inl (some (vI r))) S1) : ∀ (S : St) (x0 : Option Nat) (x1 : Int32) (x2 : Int32), n_X3_isAnswer_b36 S x0 x1 x2 = some (r, S1) → G K 6 S 36 [(0, vR x0), (1, vI x1), (2, vI x2)] [] := by
  intro S x0 x1 x2 hd
  unfold n_X3_isAnswer_b36 at hd
  refine g_aload_n C dX3_isAnswer_36 rfl 0 rfl ?_
  refine g_iload_n C dX3_isAnswer_37 rfl 2 rfl ?_
  refine g_iload_n C dX3_isAnswer_38 rfl 1 rfl ?_
  obtain ⟨hg, hd⟩ := gd_some hd
  obtain ⟨v2, S1, hc, hd⟩ := bn_some hd
  refine g_cV_v (n := 2) C (gk_X3).1 q2199 q2201 qs64 q108 q2202 (by decide +kernel) (by decide) (by decide) dX3_isAnswer_39 (As := [vI x2, vI x1]) (rest := []) rfl rfl (Nat.le_of_ble_eq_true rfl) hg (m_X3_mayReadAt E hc) ?_
  refine g_if_eq (tgt := 49) C dX3_isAnswer_42 (by decide) hd (fun hd => ?_) (fun hd => ?_)
  · refine g_iconst (v := 0) C dX3_isAnswer_49 (by decide) ?_
    exact g_iret C Q hd dX3_isAnswer_50
  · refine g_iconst (v := 1) C dX3_isAnswer_45 (by decide) ?_
    refine g_goto (tgt := 50) C dX3_isAnswer_46 (by decide) ?_
    exact g_iret C Q hd dX3_isAnswer_50
theorem w_X3_isAnswer_b0m {K : KT} {r : Int32} {S1 : St} (C : GC K RX3 cX3_isAnswer 6 4 []) (E : EH (kΓ K) (kHI K) (kl K)) (Q : GQ K (some (Jvm.ClassFile.FieldType.boolean)) (.inl (some (vI r))) S1) : ∀ (S : St) (x0 : Option Nat) (x1 : Int32) (x2 : Int32) (x3 : Int32) (x4 : Int32) (x5 : Int32), n_X3_isAnswer S x0 x1 x2 x3 x4 x5 = some (r, S1) → G K 6 S 0 [(0, vR x0), (1, vI x1), (2, vI x2), (3, vI x3), (4, vI x4), (5, vI x5)] [] := by
  intro S x0 x1 x2 x3 x4 x5 hd
  unfold n_X3_isAnswer at hd
  refine g_aload_n C dX3_isAnswer_0 rfl 0 rfl ?_
  obtain ⟨v1, hv1, hd⟩ := Option.bind_eq_some_iff.mp hd
  refine g_fld C gk_X3 (k := 3) (by decide) q1969 (Or.inl rfl) dX3_isAnswer_1 (gR_v hv1) ?_
  refine g_iload_n C dX3_isAnswer_4 rfl 1 rfl ?_
  obtain ⟨v2, hv2, hd⟩ := Option.bind_eq_some_iff.mp hd
  refine g_zaldV C dX3_isAnswer_5 hv2 ?_
  refine g_if_eq (tgt := 49) C dX3_isAnswer_6 (by decide) hd (fun hd => ?_) (fun hd => ?_)
  · refine g_iconst (v := 0) C dX3_isAnswer_49 (by decide) ?_
    exact g_iret C Q hd dX3_isAnswer_50
  · refine g_aload_n C dX3_isAnswer_9 rfl 0 rfl ?_
    refine g_iload_n C dX3_isAnswer_10 rfl 1 rfl ?_
    refine g_iload_n C dX3_isAnswer_11 rfl 3 rfl ?_
    refine g_iload C dX3_isAnswer_12 4 rfl ?_
    obtain ⟨hg, hd⟩ := gd_some hd
    obtain ⟨v4, S3, hc, hd⟩ := bn_some hd
    refine g_cV_v (n := 3) C (gk_X3).1 q2380 q2382 qs91 q108 q2383 (by decide +kernel) (by decide) (by decide) dX3_isAnswer_14 (As := [vI x1, vI x3, vI x4]) (rest := []) rfl rfl (Nat.le_of_ble_eq_true rfl) hg (m_X3_has E hc) ?_
    refine g_if_eq (tgt := 49) C dX3_isAnswer_17 (by decide) hd (fun hd => ?_) (fun hd => ?_)
    · refine g_iconst (v := 0) C dX3_isAnswer_49 (by decide) ?_
      exact g_iret C Q hd dX3_isAnswer_50
    · refine g_iload C dX3_isAnswer_20 5 rfl ?_
      refine g_iconst (v := (-1)) C dX3_isAnswer_22 (by decide) ?_
      refine g_icmp_eq (tgt := 36) C dX3_isAnswer_23 (by decide) hd (fun hd => ?_) (fun hd => ?_)
      · refine g_sub [0, 1, 2] rfl ?_
        exact w_X3_isAnswer_b36 C E Q _ _ _ _ hd
      · refine g_aload_n C dX3_isAnswer_26 rfl 0 rfl ?_
        refine g_iload_n C dX3_isAnswer_27 rfl 1 rfl ?_
        refine g_iload C dX3_isAnswer_28 5 rfl ?_
        obtain ⟨hg, hd⟩ := gd_some hd
        obtain ⟨v6, S5, hc, hd⟩ := bn_some hd
        refine g_cV_v (n := 2) C (gk_X3).1 q2280 q2282 qs75 q108 q2283 (by decide +kernel) (by decide) (by decide) dX3_isAnswer_30 (As := [vI x1, vI x5]) (rest := []) rfl rfl (Nat.le_of_ble_eq_true rfl) hg (m_X3_liesBelow E hc) ?_
        refine g_if_eq (tgt := 49) C dX3_isAnswer_33 (by decide) hd (fun hd => ?_) (fun hd => ?_)
        · refine g_iconst (v := 0) C dX3_isAnswer_49 (by decide) ?_
          exact g_iret C Q hd dX3_isAnswer_50
        · refine g_sub [0, 1, 2] rfl ?_
          exact w_X3_isAnswer_b36 C E Q _ _ _ _ hd
theorem m_X3_isAnswer {Γ : GG} {HI : St → Heap → Prop} {l : Launch} (E : EH Γ HI l) {S : St} {a0 : Option Nat} {a1 : Int32} {a2 : Int32} {a3 : Int32} {a4 : Int32} {a5 : Int32} {r : Int32} {S1 : St} (h : n_X3_isAnswer S a0 a1 a2 a3 a4 a5 = some (r, S1)) : MS Γ HI l yX3_isAnswer cX3_isAnswer 6 (some (Jvm.ClassFile.FieldType.boolean)) 4 S [vR a0, vI a1, vI a2, vI a3, vI a4, vI a5] (.inl (some (vI r))) S1 := by
  refine MS_of E.ntr E.hx (by decide +kernel) rfl (Nat.le_of_ble_eq_true rfl) fun K e1 e2 e3 e4 hnm C Q => ?_
  subst e1; subst e2; subst e3
  exact w_X3_isAnswer_b0m C E Q S a0 a1 a2 a3 a4 a5 h

def n_X3_areWords (S : St) (x0 : Option Nat) (x1 : Int32) (x2 : Int32) : Option (Int32 × St) :=
  bn (n_X3_in S x1 (0 : Int32) (99 : Int32)) fun v2 S1 =>
  if v2 = 0 then
    rtI id (Jvm.ClassFile.FieldType.boolean) (0 : Int32) S1
  else
    bn (n_X3_in S1 x2 (-1 : Int32) (99 : Int32)) fun v4 S3 =>
    if v4 = 0 then
      rtI id (Jvm.ClassFile.FieldType.boolean) (0 : Int32) S3
    else
      rtI id (Jvm.ClassFile.FieldType.boolean) (1 : Int32) S3
theorem w_X3_areWords_b0m {K : KT} {r : Int32} {S1 : St} (C : GC K RX3 cX3_areWords 3 3 []) (E : EH (kΓ K) (kHI K) (kl K)) (Q : GQ K (some (Jvm.ClassFile.FieldType.boolean)) (.inl (some (vI r))) S1) : ∀ (S : St) (x0 : Option Nat) (x1 : Int32) (x2 : Int32), n_X3_areWords S x0 x1 x2 = some (r, S1) → G K 3 S 0 [(0, vR x0), (1, vI x1), (2, vI x2)] [] := by
  intro S x0 x1 x2 hd
  unfold n_X3_areWords at hd
  refine g_iload_n C dX3_areWords_0 rfl 1 rfl ?_
  refine g_iconst (v := 0) C dX3_areWords_1 (by decide) ?_
  refine g_bipush (v := 99) C dX3_areWords_2 (by decide) ?_
  obtain ⟨v2, S1, hc, hd⟩ := bn_some hd
  refine g_cS_v (n := 3) C q2124 q2125 q108 q2126 (by decide +kernel) (by decide) (by decide) dX3_areWords_4 (As := [vI x1, vI (0 : Int32), vI (99 : Int32)]) (rest := []) rfl rfl (Nat.le_of_ble_eq_true rfl) (m_X3_in E hc) ?_
  refine g_if_eq (tgt := 24) C dX3_areWords_7 (by decide) hd (fun hd => ?_) (fun hd => ?_)
  · refine g_iconst (v := 0) C dX3_areWords_24 (by decide) ?_
    exact g_iret C Q hd dX3_areWords_25
  · refine g_iload_n C dX3_areWords_10 rfl 2 rfl ?_
    refine g_iconst (v := (-1)) C dX3_areWords_11 (by decide) ?_
    refine g_bipush (v := 99) C dX3_areWords_12 (by decide) ?_
    obtain ⟨v4, S3, hc, hd⟩ := bn_some hd
    refine g_cS_v (n := 3) C q2124 q2125 q108 q2126 (by decide +kernel) (by decide) (by decide) dX3_areWords_14 (As := [vI x2, vI (-1 : Int32), vI (99 : Int32)]) (rest := []) rfl rfl (Nat.le_of_ble_eq_true rfl) (m_X3_in E hc) ?_
    refine g_if_eq (tgt := 24) C dX3_areWords_17 (by decide) hd (fun hd => ?_) (fun hd => ?_)
    · refine g_iconst (v := 0) C dX3_areWords_24 (by decide) ?_
      exact g_iret C Q hd dX3_areWords_25
    · refine g_iconst (v := 1) C dX3_areWords_20 (by decide) ?_
      refine g_goto (tgt := 25) C dX3_areWords_21 (by decide) ?_
      exact g_iret C Q hd dX3_areWords_25
theorem m_X3_areWords {Γ : GG} {HI : St → Heap → Prop} {l : Launch} (E : EH Γ HI l) {S : St} {a0 : Option Nat} {a1 : Int32} {a2 : Int32} {r : Int32} {S1 : St} (h : n_X3_areWords S a0 a1 a2 = some (r, S1)) : MS Γ HI l yX3_areWords cX3_areWords 3 (some (Jvm.ClassFile.FieldType.boolean)) 3 S [vR a0, vI a1, vI a2] (.inl (some (vI r))) S1 := by
  refine MS_of E.ntr E.hx (by decide +kernel) rfl (Nat.le_of_ble_eq_true rfl) fun K e1 e2 e3 e4 hnm C Q => ?_
  subst e1; subst e2; subst e3
  exact w_X3_areWords_b0m C E Q S a0 a1 a2 h

def n_X3_canAsk_b55 (S : St) (x0 : Option Nat) (y0 : Int32) (y1 : Option Nat) : Option (Int32 × St) :=
  (pI .int S y1 15 0 y0).bind fun S1 =>
  (gI S1 x0 15 0).bind fun v2 =>
  if v2 = 0 then
    rtI id (Jvm.ClassFile.FieldType.boolean) (1 : Int32) S1
  else
    rtI id (Jvm.ClassFile.FieldType.boolean) (0 : Int32) S1
def n_X3_canAsk_b29 (S : St) (x0 : Option Nat) (x2 : Int32) (x3 : Int32) (y0 : Int32) : Option (Int32 × St) :=
  if y0 = 0 then
    n_X3_canAsk_b55 S x0 (1 : Int32) x0
  else
    gd (grc S x0 15) <|
    bn (n_X3_areWords S x0 x2 x3) fun v2 S1 =>
    if v2 = 0 then
      n_X3_canAsk_b55 S1 x0 (2 : Int32) x0
    else
      n_X3_canAsk_b55 S1 x0 (0 : Int32) x0
def n_X3_canAsk_b28 (S : St) (x0 : Option Nat) (x2 : Int32) (x3 : Int32) : Option (Int32 × St) :=
  n_X3_canAsk_b29 S x0 x2 x3 (0 : Int32)
def n_X3_canAsk (S : St) (x0 : Option Nat) (x1 : Int32) (x2 : Int32) (x3 : Int32) (x4 : Int32) : Option (Int32 × St) :=
  bn (n_X3_in S x1 (0 : Int32) (3 : Int32)) fun v2 S1 =>
  if v2 = 0 then
    n_X3_canAsk_b28 S1 x0 x2 x3
  else
    (gI S1 x0 15 2).bind fun v3 =>
    bn (n_X3_in S1 x4 (-1 : Int32) (v3 - (1 : Int32))) fun v5 S4 =>
    if v5 = 0 then
      n_X3_canAsk_b28 S4 x0 x2 x3
    else
      n_X3_canAsk_b29 S4 x0 x2 x3 (1 : Int32)
theorem w_X3_canAsk_b55 {K : KT} {r : Int32} {S1 : St} (C : GC K RX3 cX3_canAsk 6 4 []) (E : EH (kΓ K) (kHI K) (kl K)) (Q : GQ K (some (Jvm.ClassFile.FieldType.boolean)) (.inl (some (vI r))) S1) : ∀ (S : St) (x0 : Option Nat) (y0 : Int32) (y1 : Option Nat), n_X3_canAsk_b55 S x0 y0 y1 = some (r, S1) → G K 6 S 55 [(0, vR x0)] [vI y0, vR y1] := by
  intro S x0 y0 y1 hd
  unfold n_X3_canAsk_b55 at hd
  obtain ⟨S1, hS1, hd⟩ := Option.bind_eq_some_iff.mp hd
  refine g_put C gk_X3 (k := 0) (by decide) q1966 (Or.inl rfl) rfl dX3_canAsk_55 (gfit_ok (pI_v hS1).1).1 (gfit_ok (pI_v hS1).1).2 (pI_v hS1).2 ?_
  refine g_aload_n C dX3_canAsk_58 rfl 0 rfl ?_
  obtain ⟨v2, hv2, hd⟩ := Option.bind_eq_some_iff.mp hd
  refine g_fld C gk_X3 (k := 0) (by decide) q1966 (Or.inl rfl) dX3_canAsk_59 (gI_v hv2) ?_
  refine g_if_ne (tgt := 69) C dX3_canAsk_62 (by decide) hd (fun hd => ?_) (fun hd => ?_)
  · refine g_iconst (v := 0) C dX3_canAsk_69 (by decide) ?_
    exact g_iret C Q hd dX3_canAsk_70
  · refine g_iconst (v := 1) C dX3_canAsk_65 (by decide) ?_
    refine g_goto (tgt := 70) C dX3_canAsk_66 (by decide) ?_
    exact g_iret C Q hd dX3_canAsk_70
theorem w_X3_canAsk_b29 {K : KT} {r : Int32} {S1 : St} (C : GC K RX3 cX3_canAsk 6 4 []) (E : EH (kΓ K) (kHI K) (kl K)) (Q : GQ K (some (Jvm.ClassFile.FieldType.boolean)) (.inl (some (vI r))) S1) : ∀ (S : St) (x0 : Option Nat) (x2 : Int32) (x3 : Int32) (y0 : Int32), n_X3_canAsk_b29 S x0 x2 x3 y0 = some (r, S1) → G K 6 S 29 [(0, vR x0), (2, vI x2), (3, vI x3)] [vI y0] := by
  intro S x0 x2 x3 y0 hd
  unfold n_X3_canAsk_b29 at hd
  refine g_istore (L' := [(5, vI y0), (0, vR x0), (2, vI x2), (3, vI x3)]) C dX3_canAsk_29 (by decide) rfl ?_
  refine g_aload_n C dX3_canAsk_31 rfl 1 rfl ?_
  refine g_iload C dX3_canAsk_32 0 rfl ?_
  refine g_if_ne (tgt := 41) C dX3_canAsk_34 (by decide) hd (fun hd => ?_) (fun hd => ?_)
  · refine g_aload_n C dX3_canAsk_41 rfl 1 rfl ?_
    refine g_iload_n C dX3_canAsk_42 rfl 2 rfl ?_
    refine g_iload_n C dX3_canAsk_43 rfl 3 rfl ?_
    obtain ⟨hg, hd⟩ := gd_some hd
    obtain ⟨v2, S1, hc, hd⟩ := bn_some hd
    refine g_cV_v (n := 2) C (gk_X3).1 q2372 q2374 qs89 q108 q2375 (by decide +kernel) (by decide) (by decide) dX3_canAsk_44 (As := [vI x2, vI x3]) (rest := [vR x0]) rfl rfl (Nat.le_of_ble_eq_true rfl) hg (m_X3_areWords E hc) ?_
    refine g_if_eq (tgt := 54) C dX3_canAsk_47 (by decide) hd (fun hd => ?_) (fun hd => ?_)
    · refine g_iconst (v := 2) C dX3_canAsk_54 (by decide) ?_
      refine g_sub [1] rfl ?_
      exact w_X3_canAsk_b55 C E Q _ _ _ _ hd
    · refine g_iconst (v := 0) C dX3_canAsk_50 (by decide) ?_
      refine g_goto (tgt := 55) C dX3_canAsk_51 (by decide) ?_
      refine g_sub [1] rfl ?_
      exact w_X3_canAsk_b55 C E Q _ _ _ _ hd
  · refine g_iconst (v := 1) C dX3_canAsk_37 (by decide) ?_
    refine g_goto (tgt := 55) C dX3_canAsk_38 (by decide) ?_
    refine g_sub [1] rfl ?_
    exact w_X3_canAsk_b55 C E Q _ _ _ _ hd
theorem w_X3_canAsk_b28 {K : KT} {r : Int32} {S1 : St} (C : GC K RX3 cX3_canAsk 6 4 []) (E : EH (kΓ K) (kHI K) (kl K)) (Q : GQ K (some (Jvm.ClassFile.FieldType.boolean)) (.inl (some (vI r))) S1) : ∀ (S : St) (x0 : Option Nat) (x2 : Int32) (x3 : Int32), n_X3_canAsk_b28 S x0 x2 x3 = some (r, S1) → G K 6 S 28 [(0, vR x0), (2, vI x2), (3, vI x3)] [] := by
  intro S x0 x2 x3 hd
  unfold n_X3_canAsk_b28 at hd
  refine g_iconst (v := 0) C dX3_canAsk_28 (by decide) ?_
  refine g_sub [0, 1, 2] rfl ?_
  exact w_X3_canAsk_b29 C E Q _ _ _ _ _ hd
theorem w_X3_canAsk_b0m {K : KT} {r : Int32} {S1 : St} (C : GC K RX3 cX3_canAsk 6 4 []) (E : EH (kΓ K) (kHI K) (kl K)) (Q : GQ K (some (Jvm.ClassFile.FieldType.boolean)) (.inl (some (vI r))) S1) : ∀ (S : St) (x0 : Option Nat) (x1 : Int32) (x2 : Int32) (x3 : Int32) (x4 : Int32), n_X3_canAsk S x0 x1 x2 x3 x4 = some (r, S1) → G K 6 S 0 [(0, vR x0), (1, vI x1), (2, vI x2), (3, vI x3), (4, vI x4)] [] := by
  intro S x0 x1 x2 x3 x4 hd
  unfold n_X3_canAsk at hd
  refine g_iload_n C dX3_canAsk_0 rfl 1 rfl ?_
  refine g_iconst (v := 0) C dX3_canAsk_1 (by decide) ?_
  refine g_iconst (v := 3) C dX3_canAsk_2 (by decide) ?_
  obtain ⟨v2, S1, hc, hd⟩ := bn_some hd
  refine g_cS_v (n := 3) C q2124 q2125 q108 q2126 (by decide +kernel) (by decide) (by decide) dX3_canAsk_3 (As := [vI x1, vI (0 : Int32), vI (3 : Int32)]) (rest := []) rfl rfl (Nat.le_of_ble_eq_true rfl) (m_X3_in E hc) ?_
  refine g_if_eq (tgt := 28) C dX3_canAsk_6 (by decide) hd (fun hd => ?_) (fun hd => ?_)
  · refine g_sub [0, 2, 3] rfl ?_
    exact w_X3_canAsk_b28 C E Q _ _ _ _ hd
  · refine g_iload C dX3_canAsk_9 4 rfl ?_
    refine g_iconst (v := (-1)) C dX3_canAsk_11 (by decide) ?_
    refine g_aload_n C dX3_canAsk_12 rfl 0 rfl ?_
    obtain ⟨v3, hv3, hd⟩ := Option.bind_eq_some_iff.mp hd
    refine g_fld C gk_X3 (k := 2) (by decide) q1968 (Or.inl rfl) dX3_canAsk_13 (gI_v hv3) ?_
    refine g_iconst (v := 1) C dX3_canAsk_16 (by decide) ?_
    refine g_isub C dX3_canAsk_17 ?_
    obtain ⟨v5, S4, hc, hd⟩ := bn_some hd
    refine g_cS_v (n := 3) C q2124 q2125 q108 q2126 (by decide +kernel) (by decide) (by decide) dX3_canAsk_18 (As := [vI x4, vI (-1 : Int32), vI (v3 - (1 : Int32))]) (rest := []) rfl rfl (Nat.le_of_ble_eq_true rfl) (m_X3_in E hc) ?_
    refine g_if_eq (tgt := 28) C dX3_canAsk_21 (by decide) hd (fun hd => ?_) (fun hd => ?_)
    · refine g_sub [0, 2, 3] rfl ?_
      exact w_X3_canAsk_b28 C E Q _ _ _ _ hd
    · refine g_iconst (v := 1) C dX3_canAsk_24 (by decide) ?_
      refine g_goto (tgt := 29) C dX3_canAsk_25 (by decide) ?_
      refine g_sub [0, 2, 3] rfl ?_
      exact w_X3_canAsk_b29 C E Q _ _ _ _ _ hd
theorem m_X3_canAsk {Γ : GG} {HI : St → Heap → Prop} {l : Launch} (E : EH Γ HI l) {S : St} {a0 : Option Nat} {a1 : Int32} {a2 : Int32} {a3 : Int32} {a4 : Int32} {r : Int32} {S1 : St} (h : n_X3_canAsk S a0 a1 a2 a3 a4 = some (r, S1)) : MS Γ HI l yX3_canAsk cX3_canAsk 6 (some (Jvm.ClassFile.FieldType.boolean)) 4 S [vR a0, vI a1, vI a2, vI a3, vI a4] (.inl (some (vI r))) S1 := by
  refine MS_of E.ntr E.hx (by decide +kernel) rfl (Nat.le_of_ble_eq_true rfl) fun K e1 e2 e3 e4 hnm C Q => ?_
  subst e1; subst e2; subst e3
  exact w_X3_canAsk_b0m C E Q S a0 a1 a2 a3 a4 h

def n_X3_answers_b52 (k17 : St → Option Nat → Int32 → Int32 → Int32 → Int32 → Int32 → Int32 → Int32 → Option (Int32 × St)) (S : St) (x0 : Option Nat) (x1 : Int32) (x2 : Int32) (x3 : Int32) (x4 : Int32) (x5 : Int32) (x7 : Int32) (y0 : Int32) (y1 : Int32) : Option (Int32 × St) :=
  k17 S x0 x1 x2 x3 x4 x5 (y1 + y0) (x7 + 1)
def n_X3_answers_b17 : Nat → St → Option Nat → Int32 → Int32 → Int32 → Int32 → Int32 → Int32 → Int32 → Option (Int32 × St)
  | 0 => fun _ _ _ _ _ _ _ _ _ => none
  | n + 1 => fun S x0 x1 x2 x3 x4 x5 x6 x7 =>
    (gI S x0 15 2).bind fun v1 =>
    if v1 ≤ x7 then
      rtI id (Jvm.ClassFile.FieldType.int) x6 S
    else
      if x5 = 0 then
        rtI id (Jvm.ClassFile.FieldType.int) x6 S
      else
        gd (grc S x0 15) <|
        bn (n_X3_isAnswer S x0 x7 x1 x2 x3 x4) fun v3 S2 =>
        if v3 = 0 then
          n_X3_answers_b52 (n_X3_answers_b17 n) S2 x0 x1 x2 x3 x4 x5 x7 (0 : Int32) x6
        else
          n_X3_answers_b52 (n_X3_answers_b17 n) S2 x0 x1 x2 x3 x4 x5 x7 (1 : Int32) x6
def n_X3_answers (S : St) (x0 : Option Nat) (x1 : Int32) (x2 : Int32) (x3 : Int32) (x4 : Int32) : Option (Int32 × St) :=
  gd (grc S x0 15) <|
  bn (n_X3_canAsk S x0 x1 x2 x3 x4) fun v2 S1 =>
  n_X3_answers_b17 FU S1 x0 x1 x2 x3 x4 v2 (0 : Int32) (0 : Int32)
theorem w_X3_answers_b52 {K : KT} {r : Int32} {S1 : St} (C : GC K RX3 cX3_answers 8 5 []) (E : EH (kΓ K) (kHI K) (kl K)) (Q : GQ K (some (Jvm.ClassFile.FieldType.int)) (.inl (some (vI r))) S1) {k17 : St → Option Nat → Int32 → Int32 → Int32 → Int32 → Int32 → Int32 → Int32 → Option (Int32 × St)} (h17 : ∀ (S : St) (x0 : Option Nat) (x1 : Int32) (x2 : Int32) (x3 : Int32) (x4 : Int32) (x5 : Int32) (x6 : Int32) (x7 : Int32), k17 S x0 x1 x2 x3 x4 x5 x6 x7 = some (r, S1) → G K 8 S 17 [(0, vR x0), (1, vI x1), (2, vI x2), (3, vI x3), (4, vI x4), (5, vI x5), (6, vI x6), (7, vI x7)] []) : ∀ (S : St) (x0 : Option Nat) (x1 : Int32) (x2 : Int32) (x3 : Int32) (x4 : Int32) (x5 : Int32) (x7 : Int32) (y0 : Int32) (y1 : Int32), n_X3_answers_b52 k17 S x0 x1 x2 x3 x4 x5 x7 y0 y1 = some (r, S1) → G K 8 S 52 [(0, vR x0), (1, vI x1), (2, vI x2), (3, vI x3), (4, vI x4), (5, vI x5), (7, vI x7)] [vI y0, vI y1] := by
  intro S x0 x1 x2 x3 x4 x5 x7 y0 y1 hd
  unfold n_X3_answers_b52 at hd
  refine g_iadd C dX3_answers_52 ?_
  refine g_istore (L' := [(6, vI (y1 + y0)), (0, vR x0), (1, vI x1), (2, vI x2), (3, vI x3), (4, vI x4), (5, vI x5), (7, vI x7)]) C dX3_answers_53 (by decide) rfl ?_
  refine g_iinc (v := x7 + 1) (L' := [(7, vI (x7 + 1)), (6, vI (y1 + y0)), (0, vR x0), (1, vI x1), (2, vI x2), (3, vI x3), (4, vI x4), (5, vI x5)]) C dX3_answers_55 7 rfl rfl (by decide) rfl ?_
  refine g_goto (tgt := 17) C dX3_answers_58 (by decide) ?_
  refine g_sub [2, 3, 4, 5, 6, 7, 1, 0] rfl ?_
  exact h17 _ _ _ _ _ _ _ _ _ hd
theorem w_X3_answers_b17 {K : KT} {r : Int32} {S1 : St} (C : GC K RX3 cX3_answers 8 5 []) (E : EH (kΓ K) (kHI K) (kl K)) (Q : GQ K (some (Jvm.ClassFile.FieldType.int)) (.inl (some (vI r))) S1) : ∀ (n : Nat) (S : St) (x0 : Option Nat) (x1 : Int32) (x2 : Int32) (x3 : Int32) (x4 : Int32) (x5 : Int32) (x6 : Int32) (x7 : Int32), n_X3_answers_b17 n S x0 x1 x2 x3 x4 x5 x6 x7 = some (r, S1) → G K 8 S 17 [(0, vR x0), (1, vI x1), (2, vI x2), (3, vI x3), (4, vI x4), (5, vI x5), (6, vI x6), (7, vI x7)] [] := by
  intro n
  induction n with
  | zero => intro S x0 x1 x2 x3 x4 x5 x6 x7 hd; cases hd
  | succ n ih =>
    intro S x0 x1 x2 x3 x4 x5 x6 x7 hd
    unfold n_X3_answers_b17 at hd
    refine g_iload C dX3_answers_17 7 rfl ?_
    refine g_aload_n C dX3_answers_19 rfl 0 rfl ?_
    obtain ⟨v1, hv1, hd⟩ := Option.bind_eq_some_iff.mp hd
    refine g_fld C gk_X3 (k := 2) (by decide) q1968 (Or.inl rfl) dX3_answers_20 (gI_v hv1) ?_
    refine g_icmp_ge (tgt := 61) C dX3_answers_23 (by decide) hd (fun hd => ?_) (fun hd => ?_)
    · refine g_iload C dX3_answers_61 6 rfl ?_
      exact g_iret C Q hd dX3_answers_63
    · refine g_iload C dX3_answers_26 5 rfl ?_
      refine g_if_eq (tgt := 61) C dX3_answers_28 (by decide) hd (fun hd => ?_) (fun hd => ?_)
      · refine g_iload C dX3_answers_61 6 rfl ?_
        exact g_iret C Q hd dX3_answers_63
      · refine g_iload C dX3_answers_31 6 rfl ?_
        refine g_aload_n C dX3_answers_33 rfl 0 rfl ?_
        refine g_iload C dX3_answers_34 7 rfl ?_
        refine g_iload_n C dX3_answers_36 rfl 1 rfl ?_
        refine g_iload_n C dX3_answers_37 rfl 2 rfl ?_
        refine g_iload_n C dX3_answers_38 rfl 3 rfl ?_
        refine g_iload C dX3_answers_39 4 rfl ?_
        obtain ⟨hg, hd⟩ := gd_some hd
        obtain ⟨v3, S2, hc, hd⟩ := bn_some hd
        refine g_cV_v (n := 5) C (gk_X3).1 q2376 q2378 qs90 q108 q2379 (by decide +kernel) (by decide) (by decide) dX3_answers_41 (As := [vI x7, vI x1, vI x2, vI x3, vI x4]) (rest := [vI x6]) rfl rfl (Nat.le_of_ble_eq_true rfl) hg (m_X3_isAnswer E hc) ?_
        refine g_if_eq (tgt := 51) C dX3_answers_44 (by decide) hd (fun hd => ?_) (fun hd => ?_)
        · refine g_iconst (v := 0) C dX3_answers_51 (by decide) ?_
          refine g_sub [0, 1, 2, 3, 4, 5, 7] rfl ?_
          exact w_X3_answers_b52 C E Q ih _ _ _ _ _ _ _ _ _ _ hd
        · refine g_iconst (v := 1) C dX3_answers_47 (by decide) ?_
          refine g_goto (tgt := 52) C dX3_answers_48 (by decide) ?_
          refine g_sub [0, 1, 2, 3, 4, 5, 7] rfl ?_
          exact w_X3_answers_b52 C E Q ih _ _ _ _ _ _ _ _ _ _ hd
theorem w_X3_answers_b0m {K : KT} {r : Int32} {S1 : St} (C : GC K RX3 cX3_answers 8 5 []) (E : EH (kΓ K) (kHI K) (kl K)) (Q : GQ K (some (Jvm.ClassFile.FieldType.int)) (.inl (some (vI r))) S1) : ∀ (S : St) (x0 : Option Nat) (x1 : Int32) (x2 : Int32) (x3 : Int32) (x4 : Int32), n_X3_answers S x0 x1 x2 x3 x4 = some (r, S1) → G K 8 S 0 [(0, vR x0), (1, vI x1), (2, vI x2), (3, vI x3), (4, vI x4)] [] := by
  intro S x0 x1 x2 x3 x4 hd
  unfold n_X3_answers at hd
  refine g_aload_n C dX3_answers_0 rfl 0 rfl ?_
  refine g_iload_n C dX3_answers_1 rfl 1 rfl ?_
  refine g_iload_n C dX3_answers_2 rfl 2 rfl ?_
  refine g_iload_n C dX3_answers_3 rfl 3 rfl ?_
  refine g_iload C dX3_answers_4 4 rfl ?_
  obtain ⟨hg, hd⟩ := gd_some hd
  obtain ⟨v2, S1, hc, hd⟩ := bn_some hd
  refine g_cV_v (n := 4) C (gk_X3).1 q2368 q2370 qs88 q108 q2371 (by decide +kernel) (by decide) (by decide) dX3_answers_6 (As := [vI x1, vI x2, vI x3, vI x4]) (rest := []) rfl rfl (Nat.le_of_ble_eq_true rfl) hg (m_X3_canAsk E hc) ?_
  refine g_istore (L' := [(5, vI v2), (0, vR x0), (1, vI x1), (2, vI x2), (3, vI x3), (4, vI x4)]) C dX3_answers_9 (by decide) rfl ?_
  refine g_iconst (v := 0) C dX3_answers_11 (by decide) ?_
  refine g_istore (L' := [(6, vI (0 : Int32)), (5, vI v2), (0, vR x0), (1, vI x1), (2, vI x2), (3, vI x3), (4, vI x4)]) C dX3_answers_12 (by decide) rfl ?_
  refine g_iconst (v := 0) C dX3_answers_14 (by decide) ?_
  refine g_istore (L' := [(7, vI (0 : Int32)), (6, vI (0 : Int32)), (5, vI v2), (0, vR x0), (1, vI x1), (2, vI x2), (3, vI x3), (4, vI x4)]) C dX3_answers_15 (by decide) rfl ?_
  refine g_sub [3, 4, 5, 6, 7, 2, 1, 0] rfl ?_
  exact w_X3_answers_b17 C E Q FU _ _ _ _ _ _ _ _ _ hd
theorem m_X3_answers {Γ : GG} {HI : St → Heap → Prop} {l : Launch} (E : EH Γ HI l) {S : St} {a0 : Option Nat} {a1 : Int32} {a2 : Int32} {a3 : Int32} {a4 : Int32} {r : Int32} {S1 : St} (h : n_X3_answers S a0 a1 a2 a3 a4 = some (r, S1)) : MS Γ HI l yX3_answers cX3_answers 8 (some (Jvm.ClassFile.FieldType.int)) 5 S [vR a0, vI a1, vI a2, vI a3, vI a4] (.inl (some (vI r))) S1 := by
  refine MS_of E.ntr E.hx (by decide +kernel) rfl (Nat.le_of_ble_eq_true rfl) fun K e1 e2 e3 e4 hnm C Q => ?_
  subst e1; subst e2; subst e3
  exact w_X3_answers_b0m C E Q S a0 a1 a2 a3 a4 h

def n_X3_answersAnew_b199 (k17 : St → Option Nat → Int32 → Int32 → Int32 → Int32 → Int32 → Int32 → Int32 → Option (Int32 × St)) (k146 : St → Option Nat → Int32 → Int32 → Int32 → Int32 → Int32 → Int32 → Int32 → Int32 → Int32 → Int32 → Option (Int32 × St)) (S : St) (x0 : Option Nat) (x1 : Int32) (x2 : Int32) (x3 : Int32) (x4 : Int32) (x5 : Int32) (x6 : Int32) (x7 : Int32) (x10 : Int32) (x12 : Int32) (y0 : Int32) : Option (Int32 × St) :=
  k146 S x0 x1 x2 x3 x4 x5 x6 x7 x10 y0 (x12 + 1)
def n_X3_answersAnew_b194 (k17 : St → Option Nat → Int32 → Int32 → Int32 → Int32 → Int32 → Int32 → Int32 → Option (Int32 × St)) (k146 : St → Option Nat → Int32 → Int32 → Int32 → Int32 → Int32 → Int32 → Int32 → Int32 → Int32 → Int32 → Option (Int32 × St)) (S : St) (x0 : Option Nat) (x1 : Int32) (x2 : Int32) (x3 : Int32) (x4 : Int32) (x5 : Int32) (x6 : Int32) (x7 : Int32) (x10 : Int32) (x12 : Int32) : Option (Int32 × St) :=
  n_X3_answersAnew_b199 k17 k146 S x0 x1 x2 x3 x4 x5 x6 x7 x10 x12 (1 : Int32)
def n_X3_answersAnew_b176 (k17 : St → Option Nat → Int32 → Int32 → Int32 → Int32 → Int32 → Int32 → Int32 → Option (Int32 × St)) (k146 : St → Option Nat → Int32 → Int32 → Int32 → Int32 → Int32 → Int32 → Int32 → Int32 → Int32 → Int32 → Option (Int32 × St)) (S : St) (x0 : Option Nat) (x1 : Int32) (x2 : Int32) (x3 : Int32) (x4 : Int32) (x5 : Int32) (x6 : Int32) (x7 : Int32) (x11 : Int32) (x12 : Int32) (y0 : Int32) : Option (Int32 × St) :=
  if x11 = 0 then
    (gR S x0 15 45).bind fun v1 =>
    (aI S v1 0 x12).bind fun v2 =>
    if v2 = x3 then
      n_X3_answersAnew_b194 k17 k146 S x0 x1 x2 x3 x4 x5 x6 x7 y0 x12
    else
      n_X3_answersAnew_b199 k17 k146 S x0 x1 x2 x3 x4 x5 x6 x7 y0 x12 (0 : Int32)
  else
    n_X3_answersAnew_b194 k17 k146 S x0 x1 x2 x3 x4 x5 x6 x7 y0 x12
def n_X3_answersAnew_b171 (k17 : St → Option Nat → Int32 → Int32 → Int32 → Int32 → Int32 → Int32 → Int32 → Option (Int32 × St)) (k146 : St → Option Nat → Int32 → Int32 → Int32 → Int32 → Int32 → Int32 → Int32 → Int32 → Int32 → Int32 → Option (Int32 × St)) (S : St) (x0 : Option Nat) (x1 : Int32) (x2 : Int32) (x3 : Int32) (x4 : Int32) (x5 : Int32) (x6 : Int32) (x7 : Int32) (x11 : Int32) (x12 : Int32) : Option (Int32 × St) :=
  n_X3_answersAnew_b176 k17 k146 S x0 x1 x2 x3 x4 x5 x6 x7 x11 x12 (1 : Int32)
def n_X3_answersAnew_b227 (k17 : St → Option Nat → Int32 → Int32 → Int32 → Int32 → Int32 → Int32 → Int32 → Option (Int32 × St)) (S : St) (x0 : Option Nat) (x1 : Int32) (x2 : Int32) (x3 : Int32) (x4 : Int32) (x5 : Int32) (x6 : Int32) (x7 : Int32) : Option (Int32 × St) :=
  k17 S x0 x1 x2 x3 x4 x5 x6 (x7 + 1)
def n_X3_answersAnew_b224 (k17 : St → Option Nat → Int32 → Int32 → Int32 → Int32 → Int32 → Int32 → Int32 → Option (Int32 × St)) (S : St) (x0 : Option Nat) (x1 : Int32) (x2 : Int32) (x3 : Int32) (x4 : Int32) (x5 : Int32) (x7 : Int32) (y0 : Int32) (y1 : Int32) : Option (Int32 × St) :=
  n_X3_answersAnew_b227 k17 S x0 x1 x2 x3 x4 x5 (y1 + y0) x7
def n_X3_answersAnew_b223 (k17 : St → Option Nat → Int32 → Int32 → Int32 → Int32 → Int32 → Int32 → Int32 → Option (Int32 × St)) (S : St) (x0 : Option Nat) (x1 : Int32) (x2 : Int32) (x3 : Int32) (x4 : Int32) (x5 : Int32) (x7 : Int32) (y0 : Int32) : Option (Int32 × St) :=
  n_X3_answersAnew_b224 k17 S x0 x1 x2 x3 x4 x5 x7 (0 : Int32) y0
def n_X3_answersAnew_b146 (k17 : St → Option Nat → Int32 → Int32 → Int32 → Int32 → Int32 → Int32 → Int32 → Option (Int32 × St)) : Nat → St → Option Nat → Int32 → Int32 → Int32 → Int32 → Int32 → Int32 → Int32 → Int32 → Int32 → Int32 → Option (Int32 × St)
  | 0 => fun _ _ _ _ _ _ _ _ _ _ _ _ => none
  | n + 1 => fun S x0 x1 x2 x3 x4 x5 x6 x7 x10 x11 x12 =>
    (gI S x0 15 44).bind fun v1 =>
    if v1 ≤ x12 then
      if x10 = 0 then
        n_X3_answersAnew_b223 k17 S x0 x1 x2 x3 x4 x5 x7 x6
      else
        if x11 = 0 then
          n_X3_answersAnew_b223 k17 S x0 x1 x2 x3 x4 x5 x7 x6
        else
          n_X3_answersAnew_b224 k17 S x0 x1 x2 x3 x4 x5 x7 (1 : Int32) x6
    else
      if x10 = 0 then
        (gR S x0 15 45).bind fun v2 =>
        (aI S v2 0 x12).bind fun v3 =>
        if v3 = x2 then
          n_X3_answersAnew_b171 k17 (n_X3_answersAnew_b146 k17 n) S x0 x1 x2 x3 x4 x5 x6 x7 x11 x12
        else
          n_X3_answersAnew_b176 k17 (n_X3_answersAnew_b146 k17 n) S x0 x1 x2 x3 x4 x5 x6 x7 x11 x12 (0 : Int32)
      else
        n_X3_answersAnew_b171 k17 (n_X3_answersAnew_b146 k17 n) S x0 x1 x2 x3 x4 x5 x6 x7 x11 x12
def n_X3_answersAnew_b141 (k17 : St → Option Nat → Int32 → Int32 → Int32 → Int32 → Int32 → Int32 → Int32 → Option (Int32 × St)) (S : St) (x0 : Option Nat) (x1 : Int32) (x2 : Int32) (x3 : Int32) (x4 : Int32) (x5 : Int32) (x6 : Int32) (x7 : Int32) (x10 : Int32) (y0 : Int32) : Option (Int32 × St) :=
  n_X3_answersAnew_b146 k17 FU S x0 x1 x2 x3 x4 x5 x6 x7 x10 y0 (0 : Int32)
def n_X3_answersAnew_b105 (k17 : St → Option Nat → Int32 → Int32 → Int32 → Int32 → Int32 → Int32 → Int32 → Option (Int32 × St)) (S : St) (x0 : Option Nat) (x1 : Int32) (x2 : Int32) (x3 : Int32) (x4 : Int32) (x5 : Int32) (x6 : Int32) (x7 : Int32) (y0 : Int32) : Option (Int32 × St) :=
  if y0 = 0 then
    n_X3_answersAnew_b227 k17 S x0 x1 x2 x3 x4 x5 x6 x7
  else
    gd (grc S x0 15) <|
    bn (n_X3_mayReadAt S x0 x1 x7) fun v2 S1 =>
    if v2 = 0 then
      n_X3_answersAnew_b227 k17 S1 x0 x1 x2 x3 x4 x5 x6 x7
    else
      gd (grc S1 x0 15) <|
      bn (n_X3_takesWords S1 x0 x7) fun _ S3 =>
      if x3 = (-1 : Int32) then
        n_X3_answersAnew_b141 k17 S3 x0 x1 x2 x3 x4 x5 x6 x7 (0 : Int32) (1 : Int32)
      else
        n_X3_answersAnew_b141 k17 S3 x0 x1 x2 x3 x4 x5 x6 x7 (0 : Int32) (0 : Int32)
def n_X3_answersAnew_b100 (k17 : St → Option Nat → Int32 → Int32 → Int32 → Int32 → Int32 → Int32 → Int32 → Option (Int32 × St)) (S : St) (x0 : Option Nat) (x1 : Int32) (x2 : Int32) (x3 : Int32) (x4 : Int32) (x5 : Int32) (x6 : Int32) (x7 : Int32) : Option (Int32 × St) :=
  n_X3_answersAnew_b105 k17 S x0 x1 x2 x3 x4 x5 x6 x7 (1 : Int32)
def n_X3_answersAnew_b104 (k17 : St → Option Nat → Int32 → Int32 → Int32 → Int32 → Int32 → Int32 → Int32 → Option (Int32 × St)) (S : St) (x0 : Option Nat) (x1 : Int32) (x2 : Int32) (x3 : Int32) (x4 : Int32) (x5 : Int32) (x6 : Int32) (x7 : Int32) : Option (Int32 × St) :=
  n_X3_answersAnew_b105 k17 S x0 x1 x2 x3 x4 x5 x6 x7 (0 : Int32)
def n_X3_answersAnew_b17 : Nat → St → Option Nat → Int32 → Int32 → Int32 → Int32 → Int32 → Int32 → Int32 → Option (Int32 × St)
  | 0 => fun _ _ _ _ _ _ _ _ _ => none
  | n + 1 => fun S x0 x1 x2 x3 x4 x5 x6 x7 =>
    (gI S x0 15 2).bind fun v1 =>
    if v1 ≤ x7 then
      rtI id (Jvm.ClassFile.FieldType.int) x6 S
    else
      if x5 = 0 then
        rtI id (Jvm.ClassFile.FieldType.int) x6 S
      else
        gd (grc S x0 15) <|
        bn (n_X3_over S x0 x7) fun v3 S2 =>
        if v3 = (-1 : Int32) then
          n_X3_answersAnew_b104 (n_X3_answersAnew_b17 n) S2 x0 x1 x2 x3 x4 x5 x6 x7
        else
          (gR S2 x0 15 4).bind fun v4 =>
          (aI S2 v4 1 x7).bind fun v5 =>
          if v5 = 0 then
            if x4 = (-1 : Int32) then
              n_X3_answersAnew_b100 (n_X3_answersAnew_b17 n) S2 x0 x1 x2 x3 x4 x5 x6 x7
            else
              gd (grc S2 x0 15) <|
              bn (n_X3_isBelow S2 x0 x7 x4) fun v7 S6 =>
              if v7 = 0 then
                n_X3_answersAnew_b104 (n_X3_answersAnew_b17 n) S6 x0 x1 x2 x3 x4 x5 x6 x7
              else
                (gR S6 x0 15 13).bind fun v8 =>
                (aI S6 v8 0 v3).bind fun v9 =>
                if x4 = v9 then
                  n_X3_answersAnew_b100 (n_X3_answersAnew_b17 n) S6 x0 x1 x2 x3 x4 x5 x6 x7
                else
                  (gR S6 x0 15 13).bind fun v10 =>
                  (aI S6 v10 0 v3).bind fun v11 =>
                  gd (grc S6 x0 15) <|
                  bn (n_X3_isBelow S6 x0 x4 v11) fun v13 S12 =>
                  if v13 = 0 then
                    n_X3_answersAnew_b104 (n_X3_answersAnew_b17 n) S12 x0 x1 x2 x3 x4 x5 x6 x7
                  else
                    n_X3_answersAnew_b100 (n_X3_answersAnew_b17 n) S12 x0 x1 x2 x3 x4 x5 x6 x7
          else
            n_X3_answersAnew_b104 (n_X3_answersAnew_b17 n) S2 x0 x1 x2 x3 x4 x5 x6 x7
def n_X3_answersAnew (S : St) (x0 : Option Nat) (x1 : Int32) (x2 : Int32) (x3 : Int32) (x4 : Int32) : Option (Int32 × St) :=
  gd (grc S x0 15) <|
  bn (n_X3_canAsk S x0 x1 x2 x3 x4) fun v2 S1 =>
  n_X3_answersAnew_b17 FU S1 x0 x1 x2 x3 x4 v2 (0 : Int32) (0 : Int32)
theorem w_X3_answersAnew_b199 {K : KT} {r : Int32} {S1 : St} (C : GC K RX3 cX3_answersAnew 13 5 []) (E : EH (kΓ K) (kHI K) (kl K)) (Q : GQ K (some (Jvm.ClassFile.FieldType.int)) (.inl (some (vI r))) S1) {k17 : St → Option Nat → Int32 → Int32 → Int32 → Int32 → Int32 → Int32 → Int32 → Option (Int32 × St)} (h17 : ∀ (S : St) (x0 : Option Nat) (x1 : Int32) (x2 : Int32) (x3 : Int32) (x4 : Int32) (x5 : Int32) (x6 : Int32) (x7 : Int32), k17 S x0 x1 x2 x3 x4 x5 x6 x7 = some (r, S1) → G K 13 S 17 [(0, vR x0), (1, vI x1), (2, vI x2), (3, vI x3), (4, vI x4), (5, vI x5), (6, vI x6), (7, vI x7)] []) {k146 : St → Option Nat → Int32 → Int32 → Int32 → Int32 → Int32 → Int32 → Int32 → Int32 → Int32 → Int32 → Option (Int32 × St)} (h146 : ∀ (S : St) (x0 : Option Nat) (x1 : Int32) (x2 : Int32) (x3 : Int32) (x4 : Int32) (x5 : Int32) (x6 : Int32) (x7 : Int32) (x10 : Int32) (x11 : Int32) (x12 : Int32), k146 S x0 x1 x2 x3 x4 x5 x6 x7 x10 x11 x12 = some (r, S1) → G K 13 S 146 [(0, vR x0), (1, vI x1), (2, vI x2), (3, vI x3), (4, vI x4), (5, vI x5), (6, vI x6), (7, vI x7), (10, vI x10), (11, vI x11), (12, vI x12)] []) : ∀ (S : St) (x0 : Option Nat) (x1 : Int32) (x2 : Int32) (x3 : Int32) (x4 : Int32) (x5 : Int32) (x6 : Int32) (x7 : Int32) (x10 : Int32) (x12 : Int32) (y0 : Int32), n_X3_answersAnew_b199 k17 k146 S x0 x1 x2 x3 x4 x5 x6 x7 x10 x12 y0 = some (r, S1) → G K 13 S 199 [(0, vR x0), (1, vI x1), (2, vI x2), (3, vI x3), (4, vI x4), (5, vI x5), (6, vI x6), (7, vI x7), (10, vI x10), (12, vI x12)] [vI y0] := by
  intro S x0 x1 x2 x3 x4 x5 x6 x7 x10 x12 y0 hd
  unfold n_X3_answersAnew_b199 at hd
  refine g_istore (L' := [(11, vI y0), (0, vR x0), (1, vI x1), (2, vI x2), (3, vI x3), (4, vI x4), (5, vI x5), (6, vI x6), (7, vI x7), (10, vI x10), (12, vI x12)]) C dX3_answersAnew_199 (by decide) rfl ?_
  refine g_iinc (v := x12 + 1) (L' := [(12, vI (x12 + 1)), (11, vI y0), (0, vR x0), (1, vI x1), (2, vI x2), (3, vI x3), (4, vI x4), (5, vI x5), (6, vI x6), (7, vI x7), (10, vI x10)]) C dX3_answersAnew_201 10 rfl rfl (by decide) rfl ?_
  refine g_goto (tgt := 146) C dX3_answersAnew_204 (by decide) ?_
  refine g_sub [2, 3, 4, 5, 6, 7, 8, 9, 10, 1, 0] rfl ?_
  exact h146 _ _ _ _ _ _ _ _ _ _ _ _ hd
theorem w_X3_answersAnew_b194 {K : KT} {r : Int32} {S1 : St} (C : GC K RX3 cX3_answersAnew 13 5 []) (E : EH (kΓ K) (kHI K) (kl K)) (Q : GQ K (some (Jvm.ClassFile.FieldType.int)) (.inl (some (vI r))) S1) {k17 : St → Option Nat → Int32 → Int32 → Int32 → Int32 → Int32 → Int32 → Int32 → Option (Int32 × St)} (h17 : ∀ (S : St) (x0 : Option Nat) (x1 : Int32) (x2 : Int32) (x3 : Int32) (x4 : Int32) (x5 : Int32) (x6 : Int32) (x7 : Int32), k17 S x0 x1 x2 x3 x4 x5 x6 x7 = some (r, S1) → G K 13 S 17 [(0, vR x0), (1, vI x1), (2, vI x2), (3, vI x3), (4, vI x4), (5, vI x5), (6, vI x6), (7, vI x7)] []) {k146 : St → Option Nat → Int32 → Int32 → Int32 → Int32 → Int32 → Int32 → Int32 → Int32 → Int32 → Int32 → Option (Int32 × St)} (h146 : ∀ (S : St) (x0 : Option Nat) (x1 : Int32) (x2 : Int32) (x3 : Int32) (x4 : Int32) (x5 : Int32) (x6 : Int32) (x7 : Int32) (x10 : Int32) (x11 : Int32) (x12 : Int32), k146 S x0 x1 x2 x3 x4 x5 x6 x7 x10 x11 x12 = some (r, S1) → G K 13 S 146 [(0, vR x0), (1, vI x1), (2, vI x2), (3, vI x3), (4, vI x4), (5, vI x5), (6, vI x6), (7, vI x7), (10, vI x10), (11, vI x11), (12, vI x12)] []) : ∀ (S : St) (x0 : Option Nat) (x1 : Int32) (x2 : Int32) (x3 : Int32) (x4 : Int32) (x5 : Int32) (x6 : Int32) (x7 : Int32) (x10 : Int32) (x12 : Int32), n_X3_answersAnew_b194 k17 k146 S x0 x1 x2 x3 x4 x5 x6 x7 x10 x12 = some (r, S1) → G K 13 S 194 [(0, vR x0), (1, vI x1), (2, vI x2), (3, vI x3), (4, vI x4), (5, vI x5), (6, vI x6), (7, vI x7), (10, vI x10), (12, vI x12)] [] := by
  intro S x0 x1 x2 x3 x4 x5 x6 x7 x10 x12 hd
  unfold n_X3_answersAnew_b194 at hd
  refine g_iconst (v := 1) C dX3_answersAnew_194 (by decide) ?_
  refine g_goto (tgt := 199) C dX3_answersAnew_195 (by decide) ?_
  refine g_sub [0, 1, 2, 3, 4, 5, 6, 7, 8, 9] rfl ?_
  exact w_X3_answersAnew_b199 C E Q h17 h146 _ _ _ _ _ _ _ _ _ _ _ _ hd
theorem w_X3_answersAnew_b176 {K : KT} {r : Int32} {S1 : St} (C : GC K RX3 cX3_answersAnew 13 5 []) (E : EH (kΓ K) (kHI K) (kl K)) (Q : GQ K (some (Jvm.ClassFile.FieldType.int)) (.inl (some (vI r))) S1) {k17 : St → Option Nat → Int32 → Int32 → Int32 → Int32 → Int32 → Int32 → Int32 → Option (Int32 × St)} (h17 : ∀ (S : St) (x0 : Option Nat) (x1 : Int32) (x2 : Int32) (x3 : Int32) (x4 : Int32) (x5 : Int32) (x6 : Int32) (x7 : Int32), k17 S x0 x1 x2 x3 x4 x5 x6 x7 = some (r, S1) → G K 13 S 17 [(0, vR x0), (1, vI x1), (2, vI x2), (3, vI x3), (4, vI x4), (5, vI x5), (6, vI x6), (7, vI x7)] []) {k146 : St → Option Nat → Int32 → Int32 → Int32 → Int32 → Int32 → Int32 → Int32 → Int32 → Int32 → Int32 → Option (Int32 × St)} (h146 : ∀ (S : St) (x0 : Option Nat) (x1 : Int32) (x2 : Int32) (x3 : Int32) (x4 : Int32) (x5 : Int32) (x6 : Int32) (x7 : Int32) (x10 : Int32) (x11 : Int32) (x12 : Int32), k146 S x0 x1 x2 x3 x4 x5 x6 x7 x10 x11 x12 = some (r, S1) → G K 13 S 146 [(0, vR x0), (1, vI x1), (2, vI x2), (3, vI x3), (4, vI x4), (5, vI x5), (6, vI x6), (7, vI x7), (10, vI x10), (11, vI x11), (12, vI x12)] []) : ∀ (S : St) (x0 : Option Nat) (x1 : Int32) (x2 : Int32) (x3 : Int32) (x4 : Int32) (x5 : Int32) (x6 : Int32) (x7 : Int32) (x11 : Int32) (x12 : Int32) (y0 : Int32), n_X3_answersAnew_b176 k17 k146 S x0 x1 x2 x3 x4 x5 x6 x7 x11 x12 y0 = some (r, S1) → G K 13 S 176 [(0, vR x0), (1, vI x1), (2, vI x2), (3, vI x3), (4, vI x4), (5, vI x5), (6, vI x6), (7, vI x7), (11, vI x11), (12, vI x12)] [vI y0] := by
  intro S x0 x1 x2 x3 x4 x5 x6 x7 x11 x12 y0 hd
  unfold n_X3_answersAnew_b176 at hd
  refine g_istore (L' := [(10, vI y0), (0, vR x0), (1, vI x1), (2, vI x2), (3, vI x3), (4, vI x4), (5, vI x5), (6, vI x6), (7, vI x7), (11, vI x11), (12, vI x12)]) C dX3_answersAnew_176 (by decide) rfl ?_
  refine g_iload C dX3_answersAnew_178 9 rfl ?_
  refine g_if_ne (tgt := 194) C dX3_answersAnew_180 (by decide) hd (fun hd => ?_) (fun hd => ?_)
  · refine g_sub [1, 2, 3, 4, 5, 6, 7, 8, 0, 10] rfl ?_
    exact w_X3_answersAnew_b194 C E Q h17 h146 _ _ _ _ _ _ _ _ _ _ _ hd
  · refine g_aload_n C dX3_answersAnew_183 rfl 1 rfl ?_
    obtain ⟨v1, hv1, hd⟩ := Option.bind_eq_some_iff.mp hd
    refine g_fld C gk_X3 (k := 45) (by decide) q2011 (Or.inl rfl) dX3_answersAnew_184 (gR_v hv1) ?_
    refine g_iload C dX3_answersAnew_187 10 rfl ?_
    obtain ⟨v2, hv2, hd⟩ := Option.bind_eq_some_iff.mp hd
    refine g_ialdV C dX3_answersAnew_189 hv2 ?_
    refine g_iload_n C dX3_answersAnew_190 rfl 4 rfl ?_
    refine g_icmp_ne (tgt := 198) C dX3_answersAnew_191 (by decide) hd (fun hd => ?_) (fun hd => ?_)
    · refine g_iconst (v := 0) C dX3_answersAnew_198 (by decide) ?_
      refine g_sub [1, 2, 3, 4, 5, 6, 7, 8, 0, 10] rfl ?_
      exact w_X3_answersAnew_b199 C E Q h17 h146 _ _ _ _ _ _ _ _ _ _ _ _ hd
    · refine g_sub [1, 2, 3, 4, 5, 6, 7, 8, 0, 10] rfl ?_
      exact w_X3_answersAnew_b194 C E Q h17 h146 _ _ _ _ _ _ _ _ _ _ _ hd
theorem w_X3_answersAnew_b171 {K : KT} {r : Int32} {S1 : St} (C : GC K RX3 cX3_answersAnew 13 5 []) (E : EH (kΓ K) (kHI K) (kl K)) (Q : GQ K (some (Jvm.ClassFile.FieldType.int)) (.inl (some (vI r))) S1) {k17 : St → Option Nat → Int32 → Int32 → Int32 → Int32 → Int32 → Int32 → Int32 → Option (Int32 × St)} (h17 : ∀ (S : St) (x0 : Option Nat) (x1 : Int32) (x2 : Int32) (x3 : Int32) (x4 : Int32) (x5 : Int32) (x6 : Int32) (x7 : Int32), k17 S x0 x1 x2 x3 x4 x5 x6 x7 = some (r, S1) → G K 13 S 17 [(0, vR x0), (1, vI x1), (2, vI x2), (3, vI x3), (4, vI x4), (5, vI x5), (6, vI x6), (7, vI x7)] []) {k146 : St → Option Nat → Int32 → Int32 → Int32 → Int32 → Int32 → Int32 → Int32 → Int32 → Int32 → Int32 → Option (Int32 × St)} (h146 : ∀ (S : St) (x0 : Option Nat) (x1 : Int32) (x2 : Int32) (x3 : Int32) (x4 : Int32) (x5 : Int32) (x6 : Int32) (x7 : Int32) (x10 : Int32) (x11 : Int32) (x12 : Int32), k146 S x0 x1 x2 x3 x4 x5 x6 x7 x10 x11 x12 = some (r, S1) → G K 13 S 146 [(0, vR x0), (1, vI x1), (2, vI x2), (3, vI x3), (4, vI x4), (5, vI x5), (6, vI x6), (7, vI x7), (10, vI x10), (11, vI x11), (12, vI x12)] []) : ∀ (S : St) (x0 : Option Nat) (x1 : Int32) (x2 : Int32) (x3 : Int32) (x4 : Int32) (x5 : Int32) (x6 : Int32) (x7 : Int32) (x11 : Int32) (x12 : Int32), n_X3_answersAnew_b171 k17 k146 S x0 x1 x2 x3 x4 x5 x6 x7 x11 x12 = some (r, S1) → G K 13 S 171 [(0, vR x0), (1, vI x1), (2, vI x2), (3, vI x3), (4, vI x4), (5, vI x5), (6, vI x6), (7, vI x7), (11, vI x11), (12, vI x12)] [] := by
  intro S x0 x1 x2 x3 x4 x5 x6 x7 x11 x12 hd
  unfold n_X3_answersAnew_b171 at hd
  refine g_iconst (v := 1) C dX3_answersAnew_171 (by decide) ?_
  refine g_goto (tgt := 176) C dX3_answersAnew_172 (by decide) ?_
  refine g_sub [0, 1, 2, 3, 4, 5, 6, 7, 8, 9] rfl ?_
  exact w_X3_answersAnew_b176 C E Q h17 h146 _ _ _ _ _ _ _ _ _ _ _ _ hd
theorem w_X3_answersAnew_b227 {K : KT} {r : Int32} {S1 : St} (C : GC K RX3 cX3_answersAnew 13 5 []) (E : EH (kΓ K) (kHI K) (kl K)) (Q : GQ K (some (Jvm.ClassFile.FieldType.int)) (.inl (some (vI r))) S1) {k17 : St → Option Nat → Int32 → Int32 → Int32 → Int32 → Int32 → Int32 → Int32 → Option (Int32 × St)} (h17 : ∀ (S : St) (x0 : Option Nat) (x1 : Int32) (x2 : Int32) (x3 : Int32) (x4 : Int32) (x5 : Int32) (x6 : Int32) (x7 : Int32), k17 S x0 x1 x2 x3 x4 x5 x6 x7 = some (r, S1) → G K 13 S 17 [(0, vR x0), (1, vI x1), (2, vI x2), (3, vI x3), (4, vI x4), (5, vI x5), (6, vI x6), (7, vI x7)] []) : ∀ (S : St) (x0 : Option Nat) (x1 : Int32) (x2 : Int32) (x3 : Int32) (x4 : Int32) (x5 : Int32) (x6 : Int32) (x7 : Int32), n_X3_answersAnew_b227 k17 S x0 x1 x2 x3 x4 x5 x6 x7 = some (r, S1) → G K 13 S 227 [(0, vR x0), (1, vI x1), (2, vI x2), (3, vI x3), (4, vI x4), (5, vI x5), (6, vI x6), (7, vI x7)] [] := by
  intro S x0 x1 x2 x3 x4 x5 x6 x7 hd
  unfold n_X3_answersAnew_b227 at hd
  refine g_iinc (v := x7 + 1) (L' := [(7, vI (x7 + 1)), (0, vR x0), (1, vI x1), (2, vI x2), (3, vI x3), (4, vI x4), (5, vI x5), (6, vI x6)]) C dX3_answersAnew_227 7 rfl rfl (by decide) rfl ?_
  refine g_goto (tgt := 17) C dX3_answersAnew_230 (by decide) ?_
  refine g_sub [1, 2, 3, 4, 5, 6, 7, 0] rfl ?_
  exact h17 _ _ _ _ _ _ _ _ _ hd
theorem w_X3_answersAnew_b224 {K : KT} {r : Int32} {S1 : St} (C : GC K RX3 cX3_answersAnew 13 5 []) (E : EH (kΓ K) (kHI K) (kl K)) (Q : GQ K (some (Jvm.ClassFile.FieldType.int)) (.inl (some (vI r))) S1) {k17 : St → Option Nat → Int32 → Int32 → Int32 → Int32 → Int32 → Int32 → Int32 → Option (Int32 × St)} (h17 : ∀ (S : St) (x0 : Option Nat) (x1 : Int32) (x2 : Int32) (x3 : Int32) (x4 : Int32) (x5 : Int32) (x6 : Int32) (x7 : Int32), k17 S x0 x1 x2 x3 x4 x5 x6 x7 = some (r, S1) → G K 13 S 17 [(0, vR x0), (1, vI x1), (2, vI x2), (3, vI x3), (4, vI x4), (5, vI x5), (6, vI x6), (7, vI x7)] []) : ∀ (S : St) (x0 : Option Nat) (x1 : Int32) (x2 : Int32) (x3 : Int32) (x4 : Int32) (x5 : Int32) (x7 : Int32) (y0 : Int32) (y1 : Int32), n_X3_answersAnew_b224 k17 S x0 x1 x2 x3 x4 x5 x7 y0 y1 = some (r, S1) → G K 13 S 224 [(0, vR x0), (1, vI x1), (2, vI x2), (3, vI x3), (4, vI x4), (5, vI x5), (7, vI x7)] [vI y0, vI y1] := by
  intro S x0 x1 x2 x3 x4 x5 x7 y0 y1 hd
  unfold n_X3_answersAnew_b224 at hd
  refine g_iadd C dX3_answersAnew_224 ?_
  refine g_istore (L' := [(6, vI (y1 + y0)), (0, vR x0), (1, vI x1), (2, vI x2), (3, vI x3), (4, vI x4), (5, vI x5), (7, vI x7)]) C dX3_answersAnew_225 (by decide) rfl ?_
  refine g_sub [1, 2, 3, 4, 5, 6, 0, 7] rfl ?_
  exact w_X3_answersAnew_b227 C E Q h17 _ _ _ _ _ _ _ _ _ hd
theorem w_X3_answersAnew_b223 {K : KT} {r : Int32} {S1 : St} (C : GC K RX3 cX3_answersAnew 13 5 []) (E : EH (kΓ K) (kHI K) (kl K)) (Q : GQ K (some (Jvm.ClassFile.FieldType.int)) (.inl (some (vI r))) S1) {k17 : St → Option Nat → Int32 → Int32 → Int32 → Int32 → Int32 → Int32 → Int32 → Option (Int32 × St)} (h17 : ∀ (S : St) (x0 : Option Nat) (x1 : Int32) (x2 : Int32) (x3 : Int32) (x4 : Int32) (x5 : Int32) (x6 : Int32) (x7 : Int32), k17 S x0 x1 x2 x3 x4 x5 x6 x7 = some (r, S1) → G K 13 S 17 [(0, vR x0), (1, vI x1), (2, vI x2), (3, vI x3), (4, vI x4), (5, vI x5), (6, vI x6), (7, vI x7)] []) : ∀ (S : St) (x0 : Option Nat) (x1 : Int32) (x2 : Int32) (x3 : Int32) (x4 : Int32) (x5 : Int32) (x7 : Int32) (y0 : Int32), n_X3_answersAnew_b223 k17 S x0 x1 x2 x3 x4 x5 x7 y0 = some (r, S1) → G K 13 S 223 [(0, vR x0), (1, vI x1), (2, vI x2), (3, vI x3), (4, vI x4), (5, vI x5), (7, vI x7)] [vI y0] := by
  intro S x0 x1 x2 x3 x4 x5 x7 y0 hd
  unfold n_X3_answersAnew_b223 at hd
  refine g_iconst (v := 0) C dX3_answersAnew_223 (by decide) ?_
  refine g_sub [0, 1, 2, 3, 4, 5, 6] rfl ?_
  exact w_X3_answersAnew_b224 C E Q h17 _ _ _ _ _ _ _ _ _ _ hd
theorem w_X3_answersAnew_b146 {K : KT} {r : Int32} {S1 : St} (C : GC K RX3 cX3_answersAnew 13 5 []) (E : EH (kΓ K) (kHI K) (kl K)) (Q : GQ K (some (Jvm.ClassFile.FieldType.int)) (.inl (some (vI r))) S1) {k17 : St → Option Nat → Int32 → Int32 → Int32 → Int32 → Int32 → Int32 → Int32 → Option (Int32 × St)} (h17 : ∀ (S : St) (x0 : Option Nat) (x1 : Int32) (x2 : Int32) (x3 : Int32) (x4 : Int32) (x5 : Int32) (x6 : Int32) (x7 : Int32), k17 S x0 x1 x2 x3 x4 x5 x6 x7 = some (r, S1) → G K 13 S 17 [(0, vR x0), (1, vI x1), (2, vI x2), (3, vI x3), (4, vI x4), (5, vI x5), (6, vI x6), (7, vI x7)] []) : ∀ (n : Nat) (S : St) (x0 : Option Nat) (x1 : Int32) (x2 : Int32) (x3 : Int32) (x4 : Int32) (x5 : Int32) (x6 : Int32) (x7 : Int32) (x10 : Int32) (x11 : Int32) (x12 : Int32), n_X3_answersAnew_b146 k17 n S x0 x1 x2 x3 x4 x5 x6 x7 x10 x11 x12 = some (r, S1) → G K 13 S 146 [(0, vR x0), (1, vI x1), (2, vI x2), (3, vI x3), (4, vI x4), (5, vI x5), (6, vI x6), (7, vI x7), (10, vI x10), (11, vI x11), (12, vI x12)] [] := by
  intro n
  induction n with
  | zero => intro S x0 x1 x2 x3 x4 x5 x6 x7 x10 x11 x12 hd; cases hd
  | succ n ih =>
    intro S x0 x1 x2 x3 x4 x5 x6 x7 x10 x11 x12 hd
    unfold n_X3_answersAnew_b146 at hd
    refine g_iload C dX3_answersAnew_146 10 rfl ?_
    refine g_aload_n C dX3_answersAnew_148 rfl 0 rfl ?_
    obtain ⟨v1, hv1, hd⟩ := Option.bind_eq_some_iff.mp hd
    refine g_fld C gk_X3 (k := 44) (by decide) q2010 (Or.inl rfl) dX3_answersAnew_149 (gI_v hv1) ?_
    refine g_icmp_ge (tgt := 207) C dX3_answersAnew_152 (by decide) hd (fun hd => ?_) (fun hd => ?_)
    · refine g_iload C dX3_answersAnew_207 6 rfl ?_
      refine g_iload C dX3_answersAnew_209 8 rfl ?_
      refine g_if_eq (tgt := 223) C dX3_answersAnew_211 (by decide) hd (fun hd => ?_) (fun hd => ?_)
      · refine g_sub [0, 1, 2, 3, 4, 5, 7] rfl ?_
        exact w_X3_answersAnew_b223 C E Q h17 _ _ _ _ _ _ _ _ _ hd
      · refine g_iload C dX3_answersAnew_214 9 rfl ?_
        refine g_if_eq (tgt := 223) C dX3_answersAnew_216 (by decide) hd (fun hd => ?_) (fun hd => ?_)
        · refine g_sub [0, 1, 2, 3, 4, 5, 7] rfl ?_
          exact w_X3_answersAnew_b223 C E Q h17 _ _ _ _ _ _ _ _ _ hd
        · refine g_iconst (v := 1) C dX3_answersAnew_219 (by decide) ?_
          refine g_goto (tgt := 224) C dX3_answersAnew_220 (by decide) ?_
          refine g_sub [0, 1, 2, 3, 4, 5, 7] rfl ?_
          exact w_X3_answersAnew_b224 C E Q h17 _ _ _ _ _ _ _ _ _ _ hd
    · refine g_iload C dX3_answersAnew_155 8 rfl ?_
      refine g_if_ne (tgt := 171) C dX3_answersAnew_157 (by decide) hd (fun hd => ?_) (fun hd => ?_)
      · refine g_sub [0, 1, 2, 3, 4, 5, 6, 7, 9, 10] rfl ?_
        exact w_X3_answersAnew_b171 C E Q h17 ih _ _ _ _ _ _ _ _ _ _ _ hd
      · refine g_aload_n C dX3_answersAnew_160 rfl 0 rfl ?_
        obtain ⟨v2, hv2, hd⟩ := Option.bind_eq_some_iff.mp hd
        refine g_fld C gk_X3 (k := 45) (by decide) q2011 (Or.inl rfl) dX3_answersAnew_161 (gR_v hv2) ?_
        refine g_iload C dX3_answersAnew_164 10 rfl ?_
        obtain ⟨v3, hv3, hd⟩ := Option.bind_eq_some_iff.mp hd
        refine g_ialdV C dX3_answersAnew_166 hv3 ?_
        refine g_iload_n C dX3_answersAnew_167 rfl 2 rfl ?_
        refine g_icmp_ne (tgt := 175) C dX3_answersAnew_168 (by decide) hd (fun hd => ?_) (fun hd => ?_)
        · refine g_iconst (v := 0) C dX3_answersAnew_175 (by decide) ?_
          refine g_sub [0, 1, 2, 3, 4, 5, 6, 7, 9, 10] rfl ?_
          exact w_X3_answersAnew_b176 C E Q h17 ih _ _ _ _ _ _ _ _ _ _ _ _ hd
        · refine g_sub [0, 1, 2, 3, 4, 5, 6, 7, 9, 10] rfl ?_
          exact w_X3_answersAnew_b171 C E Q h17 ih _ _ _ _ _ _ _ _ _ _ _ hd
theorem w_X3_answersAnew_b141 {K : KT} {r : Int32} {S1 : St} (C : GC K RX3 cX3_answersAnew 13 5 []) (E : EH (kΓ K) (kHI K) (kl K)) (Q : GQ K (some (Jvm.ClassFile.FieldType.int)) (.inl (some (vI r))) S1) {k17 : St → Option Nat → Int32 → Int32 → Int32 → Int32 → Int32 → Int32 → Int32 → Option (Int32 × St)} (h17 : ∀ (S : St) (x0 : Option Nat) (x1 : Int32) (x2 : Int32) (x3 : Int32) (x4 : Int32) (x5 : Int32) (x6 : Int32) (x7 : Int32), k17 S x0 x1 x2 x3 x4 x5 x6 x7 = some (r, S1) → G K 13 S 17 [(0, vR x0), (1, vI x1), (2, vI x2), (3, vI x3), (4, vI x4), (5, vI x5), (6, vI x6), (7, vI x7)] []) : ∀ (S : St) (x0 : Option Nat) (x1 : Int32) (x2 : Int32) (x3 : Int32) (x4 : Int32) (x5 : Int32) (x6 : Int32) (x7 : Int32) (x10 : Int32) (y0 : Int32), n_X3_answersAnew_b141 k17 S x0 x1 x2 x3 x4 x5 x6 x7 x10 y0 = some (r, S1) → G K 13 S 141 [(0, vR x0), (1, vI x1), (2, vI x2), (3, vI x3), (4, vI x4), (5, vI x5), (6, vI x6), (7, vI x7), (10, vI x10)] [vI y0] := by
  intro S x0 x1 x2 x3 x4 x5 x6 x7 x10 y0 hd
  unfold n_X3_answersAnew_b141 at hd
  refine g_istore (L' := [(11, vI y0), (0, vR x0), (1, vI x1), (2, vI x2), (3, vI x3), (4, vI x4), (5, vI x5), (6, vI x6), (7, vI x7), (10, vI x10)]) C dX3_answersAnew_141 (by decide) rfl ?_
  refine g_iconst (v := 0) C dX3_answersAnew_143 (by decide) ?_
  refine g_istore (L' := [(12, vI (0 : Int32)), (11, vI y0), (0, vR x0), (1, vI x1), (2, vI x2), (3, vI x3), (4, vI x4), (5, vI x5), (6, vI x6), (7, vI x7), (10, vI x10)]) C dX3_answersAnew_144 (by decide) rfl ?_
  refine g_sub [2, 3, 4, 5, 6, 7, 8, 9, 10, 1, 0] rfl ?_
  exact w_X3_answersAnew_b146 C E Q h17 FU _ _ _ _ _ _ _ _ _ _ _ _ hd
theorem w_X3_answersAnew_b105 {K : KT} {r : Int32} {S1 : St} (C : GC K RX3 cX3_answersAnew 13 5 []) (E : EH (kΓ K) (kHI K) (kl K)) (Q : GQ K (some (Jvm.ClassFile.FieldType.int)) (.inl (some (vI r))) S1) {k17 : St → Option Nat → Int32 → Int32 → Int32 → Int32 → Int32 → Int32 → Int32 → Option (Int32 × St)} (h17 : ∀ (S : St) (x0 : Option Nat) (x1 : Int32) (x2 : Int32) (x3 : Int32) (x4 : Int32) (x5 : Int32) (x6 : Int32) (x7 : Int32), k17 S x0 x1 x2 x3 x4 x5 x6 x7 = some (r, S1) → G K 13 S 17 [(0, vR x0), (1, vI x1), (2, vI x2), (3, vI x3), (4, vI x4), (5, vI x5), (6, vI x6), (7, vI x7)] []) : ∀ (S : St) (x0 : Option Nat) (x1 : Int32) (x2 : Int32) (x3 : Int32) (x4 : Int32) (x5 : Int32) (x6 : Int32) (x7 : Int32) (y0 : Int32), n_X3_answersAnew_b105 k17 S x0 x1 x2 x3 x4 x5 x6 x7 y0 = some (r, S1) → G K 13 S 105 [(0, vR x0), (1, vI x1), (2, vI x2), (3, vI x3), (4, vI x4), (5, vI x5), (6, vI x6), (7, vI x7)] [vI y0] := by
  intro S x0 x1 x2 x3 x4 x5 x6 x7 y0 hd
  unfold n_X3_answersAnew_b105 at hd
  refine g_istore (L' := [(9, vI y0), (0, vR x0), (1, vI x1), (2, vI x2), (3, vI x3), (4, vI x4), (5, vI x5), (6, vI x6), (7, vI x7)]) C dX3_answersAnew_105 (by decide) rfl ?_
  refine g_iload C dX3_answersAnew_107 0 rfl ?_
  refine g_if_eq (tgt := 227) C dX3_answersAnew_109 (by decide) hd (fun hd => ?_) (fun hd => ?_)
  · refine g_sub [1, 2, 3, 4, 5, 6, 7, 8] rfl ?_
    exact w_X3_answersAnew_b227 C E Q h17 _ _ _ _ _ _ _ _ _ hd
  · refine g_aload_n C dX3_answersAnew_112 rfl 1 rfl ?_
    refine g_iload_n C dX3_answersAnew_113 rfl 2 rfl ?_
    refine g_iload C dX3_answersAnew_114 8 rfl ?_
    obtain ⟨hg, hd⟩ := gd_some hd
    obtain ⟨v2, S1, hc, hd⟩ := bn_some hd
    refine g_cV_v (n := 2) C (gk_X3).1 q2199 q2201 qs64 q108 q2202 (by decide +kernel) (by decide) (by decide) dX3_answersAnew_116 (As := [vI x1, vI x7]) (rest := []) rfl rfl (Nat.le_of_ble_eq_true rfl) hg (m_X3_mayReadAt E hc) ?_
    refine g_if_eq (tgt := 227) C dX3_answersAnew_119 (by decide) hd (fun hd => ?_) (fun hd => ?_)
    · refine g_sub [1, 2, 3, 4, 5, 6, 7, 8] rfl ?_
      exact w_X3_answersAnew_b227 C E Q h17 _ _ _ _ _ _ _ _ _ hd
    · refine g_aload_n C dX3_answersAnew_122 rfl 1 rfl ?_
      refine g_iload C dX3_answersAnew_123 8 rfl ?_
      obtain ⟨hg, hd⟩ := gd_some hd
      obtain ⟨_, S3, hc, hd⟩ := bn_some hd
      refine g_cV_n (n := 1) C (gk_X3).1 q2296 q2298 qs79 q108 q2299 (by decide +kernel) (by decide) (by decide) dX3_answersAnew_125 (As := [vI x7]) (rest := []) rfl rfl (Nat.le_of_ble_eq_true rfl) hg (m_X3_takesWords E hc) ?_
      refine g_iconst (v := 0) C dX3_answersAnew_128 (by decide) ?_
      refine g_istore (L' := [(10, vI (0 : Int32)), (9, vI y0), (0, vR x0), (1, vI x1), (2, vI x2), (3, vI x3), (4, vI x4), (5, vI x5), (6, vI x6), (7, vI x7)]) C dX3_answersAnew_129 (by decide) rfl ?_
      refine g_iload_n C dX3_answersAnew_131 rfl 5 rfl ?_
      refine g_iconst (v := (-1)) C dX3_answersAnew_132 (by decide) ?_
      refine g_icmp_ne (tgt := 140) C dX3_answersAnew_133 (by decide) hd (fun hd => ?_) (fun hd => ?_)
      · refine g_iconst (v := 0) C dX3_answersAnew_140 (by decide) ?_
        refine g_sub [2, 3, 4, 5, 6, 7, 8, 9, 0] rfl ?_
        exact w_X3_answersAnew_b141 C E Q h17 _ _ _ _ _ _ _ _ _ _ _ hd
      · refine g_iconst (v := 1) C dX3_answersAnew_136 (by decide) ?_
        refine g_goto (tgt := 141) C dX3_answersAnew_137 (by decide) ?_
        refine g_sub [2, 3, 4, 5, 6, 7, 8, 9, 0] rfl ?_
        exact w_X3_answersAnew_b141 C E Q h17 _ _ _ _ _ _ _ _ _ _ _ hd
theorem w_X3_answersAnew_b100 {K : KT} {r : Int32} {S1 : St} (C : GC K RX3 cX3_answersAnew 13 5 []) (E : EH (kΓ K) (kHI K) (kl K)) (Q : GQ K (some (Jvm.ClassFile.FieldType.int)) (.inl (some (vI r))) S1) {k17 : St → Option Nat → Int32 → Int32 → Int32 → Int32 → Int32 → Int32 → Int32 → Option (Int32 × St)} (h17 : ∀ (S : St) (x0 : Option Nat) (x1 : Int32) (x2 : Int32) (x3 : Int32) (x4 : Int32) (x5 : Int32) (x6 : Int32) (x7 : Int32), k17 S x0 x1 x2 x3 x4 x5 x6 x7 = some (r, S1) → G K 13 S 17 [(0, vR x0), (1, vI x1), (2, vI x2), (3, vI x3), (4, vI x4), (5, vI x5), (6, vI x6), (7, vI x7)] []) : ∀ (S : St) (x0 : Option Nat) (x1 : Int32) (x2 : Int32) (x3 : Int32) (x4 : Int32) (x5 : Int32) (x6 : Int32) (x7 : Int32), n_X3_answersAnew_b100 k17 S x0 x1 x2 x3 x4 x5 x6 x7 = some (r, S1) → G K 13 S 100 [(0, vR x0), (1, vI x1), (2, vI x2), (3, vI x3), (4, vI x4), (5, vI x5), (6, vI x6), (7, vI x7)] [] := by
  intro S x0 x1 x2 x3 x4 x5 x6 x7 hd
  unfold n_X3_answersAnew_b100 at hd
  refine g_iconst (v := 1) C dX3_answersAnew_100 (by decide) ?_
  refine g_goto (tgt := 105) C dX3_answersAnew_101 (by decide) ?_
  refine g_sub [0, 1, 2, 3, 4, 5, 6, 7] rfl ?_
  exact w_X3_answersAnew_b105 C E Q h17 _ _ _ _ _ _ _ _ _ _ hd
theorem w_X3_answersAnew_b104 {K : KT} {r : Int32} {S1 : St} (C : GC K RX3 cX3_answersAnew 13 5 []) (E : EH (kΓ K) (kHI K) (kl K)) (Q : GQ K (some (Jvm.ClassFile.FieldType.int)) (.inl (some (vI r))) S1) {k17 : St → Option Nat → Int32 → Int32 → Int32 → Int32 → Int32 → Int32 → Int32 → Option (Int32 × St)} (h17 : ∀ (S : St) (x0 : Option Nat) (x1 : Int32) (x2 : Int32) (x3 : Int32) (x4 : Int32) (x5 : Int32) (x6 : Int32) (x7 : Int32), k17 S x0 x1 x2 x3 x4 x5 x6 x7 = some (r, S1) → G K 13 S 17 [(0, vR x0), (1, vI x1), (2, vI x2), (3, vI x3), (4, vI x4), (5, vI x5), (6, vI x6), (7, vI x7)] []) : ∀ (S : St) (x0 : Option Nat) (x1 : Int32) (x2 : Int32) (x3 : Int32) (x4 : Int32) (x5 : Int32) (x6 : Int32) (x7 : Int32), n_X3_answersAnew_b104 k17 S x0 x1 x2 x3 x4 x5 x6 x7 = some (r, S1) → G K 13 S 104 [(0, vR x0), (1, vI x1), (2, vI x2), (3, vI x3), (4, vI x4), (5, vI x5), (6, vI x6), (7, vI x7)] [] := by
  intro S x0 x1 x2 x3 x4 x5 x6 x7 hd
  unfold n_X3_answersAnew_b104 at hd
  refine g_iconst (v := 0) C dX3_answersAnew_104 (by decide) ?_
  refine g_sub [0, 1, 2, 3, 4, 5, 6, 7] rfl ?_
  exact w_X3_answersAnew_b105 C E Q h17 _ _ _ _ _ _ _ _ _ _ hd
theorem w_X3_answersAnew_b17 {K : KT} {r : Int32} {S1 : St} (C : GC K RX3 cX3_answersAnew 13 5 []) (E : EH (kΓ K) (kHI K) (kl K)) (Q : GQ K (some (Jvm.ClassFile.FieldType.int)) (.inl (some (vI r))) S1) : ∀ (n : Nat) (S : St) (x0 : Option Nat) (x1 : Int32) (x2 : Int32) (x3 : Int32) (x4 : Int32) (x5 : Int32) (x6 : Int32) (x7 : Int32), n_X3_answersAnew_b17 n S x0 x1 x2 x3 x4 x5 x6 x7 = some (r, S1) → G K 13 S 17 [(0, vR x0), (1, vI x1), (2, vI x2), (3, vI x3), (4, vI x4), (5, vI x5), (6, vI x6), (7, vI x7)] [] := by
  intro n
  induction n with
  | zero => intro S x0 x1 x2 x3 x4 x5 x6 x7 hd; cases hd
  | succ n ih =>
    intro S x0 x1 x2 x3 x4 x5 x6 x7 hd
    unfold n_X3_answersAnew_b17 at hd
    refine g_iload C dX3_answersAnew_17 7 rfl ?_
    refine g_aload_n C dX3_answersAnew_19 rfl 0 rfl ?_
    obtain ⟨v1, hv1, hd⟩ := Option.bind_eq_some_iff.mp hd
    refine g_fld C gk_X3 (k := 2) (by decide) q1968 (Or.inl rfl) dX3_answersAnew_20 (gI_v hv1) ?_
    refine g_icmp_ge (tgt := 233) C dX3_answersAnew_23 (by decide) hd (fun hd => ?_) (fun hd => ?_)
    · refine g_iload C dX3_answersAnew_233 6 rfl ?_
      exact g_iret C Q hd dX3_answersAnew_235
    · refine g_iload C dX3_answersAnew_26 5 rfl ?_
      refine g_if_eq (tgt := 233) C dX3_answersAnew_28 (by decide) hd (fun hd => ?_) (fun hd => ?_)
      · refine g_iload C dX3_answersAnew_233 6 rfl ?_
        exact g_iret C Q hd dX3_answersAnew_235
      · refine g_aload_n C dX3_answersAnew_31 rfl 0 rfl ?_
        refine g_iload C dX3_answersAnew_32 7 rfl ?_
        obtain ⟨hg, hd⟩ := gd_some hd
        obtain ⟨v3, S2, hc, hd⟩ := bn_some hd
        refine g_cV_v (n := 1) C (gk_X3).1 q2135 q2137 qs55 q108 q2138 (by decide +kernel) (by decide) (by decide) dX3_answersAnew_34 (As := [vI x7]) (rest := []) rfl rfl (Nat.le_of_ble_eq_true rfl) hg (m_X3_over E hc) ?_
        refine g_istore (L' := [(8, vI v3), (0, vR x0), (1, vI x1), (2, vI x2), (3, vI x3), (4, vI x4), (5, vI x5), (6, vI x6), (7, vI x7)]) C dX3_answersAnew_37 (by decide) rfl ?_
        refine g_iload C dX3_answersAnew_39 0 rfl ?_
        refine g_iconst (v := (-1)) C dX3_answersAnew_41 (by decide) ?_
        refine g_icmp_eq (tgt := 104) C dX3_answersAnew_42 (by decide) hd (fun hd => ?_) (fun hd => ?_)
        · refine g_sub [1, 2, 3, 4, 5, 6, 7, 8] rfl ?_
          exact w_X3_answersAnew_b104 C E Q ih _ _ _ _ _ _ _ _ _ hd
        · refine g_aload_n C dX3_answersAnew_45 rfl 1 rfl ?_
          obtain ⟨v4, hv4, hd⟩ := Option.bind_eq_some_iff.mp hd
          refine g_fld C gk_X3 (k := 4) (by decide) q1970 (Or.inl rfl) dX3_answersAnew_46 (gR_v hv4) ?_
          refine g_iload C dX3_answersAnew_49 8 rfl ?_
          obtain ⟨v5, hv5, hd⟩ := Option.bind_eq_some_iff.mp hd
          refine g_zaldV C dX3_answersAnew_51 hv5 ?_
          refine g_if_ne (tgt := 104) C dX3_answersAnew_52 (by decide) hd (fun hd => ?_) (fun hd => ?_)
          · refine g_sub [1, 2, 3, 4, 5, 6, 7, 8] rfl ?_
            exact w_X3_answersAnew_b104 C E Q ih _ _ _ _ _ _ _ _ _ hd
          · refine g_iload C dX3_answersAnew_55 5 rfl ?_
            refine g_iconst (v := (-1)) C dX3_answersAnew_57 (by decide) ?_
            refine g_icmp_eq (tgt := 100) C dX3_answersAnew_58 (by decide) hd (fun hd => ?_) (fun hd => ?_)
            · refine g_sub [1, 2, 3, 4, 5, 6, 7, 8] rfl ?_
              exact w_X3_answersAnew_b100 C E Q ih _ _ _ _ _ _ _ _ _ hd
            · refine g_aload_n C dX3_answersAnew_61 rfl 1 rfl ?_
              refine g_iload C dX3_answersAnew_62 8 rfl ?_
              refine g_iload C dX3_answersAnew_64 5 rfl ?_
              obtain ⟨hg, hd⟩ := gd_some hd
              obtain ⟨v7, S6, hc, hd⟩ := bn_some hd
              refine g_cV_v (n := 2) C (gk_X3).1 q2139 q2141 qs56 q108 q2142 (by decide +kernel) (by decide) (by decide) dX3_answersAnew_66 (As := [vI x7, vI x4]) (rest := []) rfl rfl (Nat.le_of_ble_eq_true rfl) hg (m_X3_isBelow E hc) ?_
              refine g_if_eq (tgt := 104) C dX3_answersAnew_69 (by decide) hd (fun hd => ?_) (fun hd => ?_)
              · refine g_sub [1, 2, 3, 4, 5, 6, 7, 8] rfl ?_
                exact w_X3_answersAnew_b104 C E Q ih _ _ _ _ _ _ _ _ _ hd
              · refine g_iload C dX3_answersAnew_72 5 rfl ?_
                refine g_aload_n C dX3_answersAnew_74 rfl 1 rfl ?_
                obtain ⟨v8, hv8, hd⟩ := Option.bind_eq_some_iff.mp hd
                refine g_fld C gk_X3 (k := 13) (by decide) q1979 (Or.inl rfl) dX3_answersAnew_75 (gR_v hv8) ?_
                refine g_iload C dX3_answersAnew_78 0 rfl ?_
                obtain ⟨v9, hv9, hd⟩ := Option.bind_eq_some_iff.mp hd
                refine g_ialdV C dX3_answersAnew_80 hv9 ?_
                refine g_icmp_eq (tgt := 100) C dX3_answersAnew_81 (by decide) hd (fun hd => ?_) (fun hd => ?_)
                · refine g_sub [1, 2, 3, 4, 5, 6, 7, 8] rfl ?_
                  exact w_X3_answersAnew_b100 C E Q ih _ _ _ _ _ _ _ _ _ hd
                · refine g_aload_n C dX3_answersAnew_84 rfl 1 rfl ?_
                  refine g_iload C dX3_answersAnew_85 5 rfl ?_
                  refine g_aload_n C dX3_answersAnew_87 rfl 1 rfl ?_
                  obtain ⟨v10, hv10, hd⟩ := Option.bind_eq_some_iff.mp hd
                  refine g_fld C gk_X3 (k := 13) (by decide) q1979 (Or.inl rfl) dX3_answersAnew_88 (gR_v hv10) ?_
                  refine g_iload C dX3_answersAnew_91 0 rfl ?_
                  obtain ⟨v11, hv11, hd⟩ := Option.bind_eq_some_iff.mp hd
                  refine g_ialdV C dX3_answersAnew_93 hv11 ?_
                  obtain ⟨hg, hd⟩ := gd_some hd
                  obtain ⟨v13, S12, hc, hd⟩ := bn_some hd
                  refine g_cV_v (n := 2) C (gk_X3).1 q2139 q2141 qs56 q108 q2142 (by decide +kernel) (by decide) (by decide) dX3_answersAnew_94 (As := [vI x4, vI v11]) (rest := []) rfl rfl (Nat.le_of_ble_eq_true rfl) hg (m_X3_isBelow E hc) ?_
                  refine g_if_eq (tgt := 104) C dX3_answersAnew_97 (by decide) hd (fun hd => ?_) (fun hd => ?_)
                  · refine g_sub [1, 2, 3, 4, 5, 6, 7, 8] rfl ?_
                    exact w_X3_answersAnew_b104 C E Q ih _ _ _ _ _ _ _ _ _ hd
                  · refine g_sub [1, 2, 3, 4, 5, 6, 7, 8] rfl ?_
                    exact w_X3_answersAnew_b100 C E Q ih _ _ _ _ _ _ _ _ _ hd
theorem w_X3_answersAnew_b0m {K : KT} {r : Int32} {S1 : St} (C : GC K RX3 cX3_answersAnew 13 5 []) (E : EH (kΓ K) (kHI K) (kl K)) (Q : GQ K (some (Jvm.ClassFile.FieldType.int)) (.inl (some (vI r))) S1) : ∀ (S : St) (x0 : Option Nat) (x1 : Int32) (x2 : Int32) (x3 : Int32) (x4 : Int32), n_X3_answersAnew S x0 x1 x2 x3 x4 = some (r, S1) → G K 13 S 0 [(0, vR x0), (1, vI x1), (2, vI x2), (3, vI x3), (4, vI x4)] [] := by
  intro S x0 x1 x2 x3 x4 hd
  unfold n_X3_answersAnew at hd
  refine g_aload_n C dX3_answersAnew_0 rfl 0 rfl ?_
  refine g_iload_n C dX3_answersAnew_1 rfl 1 rfl ?_
  refine g_iload_n C dX3_answersAnew_2 rfl 2 rfl ?_
  refine g_iload_n C dX3_answersAnew_3 rfl 3 rfl ?_
  refine g_iload C dX3_answersAnew_4 4 rfl ?_
  obtain ⟨hg, hd⟩ := gd_some hd
  obtain ⟨v2, S1, hc, hd⟩ := bn_some hd
  refine g_cV_v (n := 4) C (gk_X3).1 q2368 q2370 qs88 q108 q2371 (by decide +kernel) (by decide) (by decide) dX3_answersAnew_6 (As := [vI x1, vI x2, vI x3, vI x4]) (rest := []) rfl rfl (Nat.le_of_ble_eq_true rfl) hg (m_X3_canAsk E hc) ?_
  refine g_istore (L' := [(5, vI v2), (0, vR x0), (1, vI x1), (2, vI x2), (3, vI x3), (4, vI x4)]) C dX3_answersAnew_9 (by decide) rfl ?_
  refine g_iconst (v := 0) C dX3_answersAnew_11 (by decide) ?_
  refine g_istore (L' := [(6, vI (0 : Int32)), (5, vI v2), (0, vR x0), (1, vI x1), (2, vI x2), (3, vI x3), (4, vI x4)]) C dX3_answersAnew_12 (by decide) rfl ?_
  refine g_iconst (v := 0) C dX3_answersAnew_14 (by decide) ?_
  refine g_istore (L' := [(7, vI (0 : Int32)), (6, vI (0 : Int32)), (5, vI v2), (0, vR x0), (1, vI x1), (2, vI x2), (3, vI x3), (4, vI x4)]) C dX3_answersAnew_15 (by decide) rfl ?_
  refine g_sub [3, 4, 5, 6, 7, 2, 1, 0] rfl ?_
  exact w_X3_answersAnew_b17 C E Q FU _ _ _ _ _ _ _ _ _ hd
theorem m_X3_answersAnew {Γ : GG} {HI : St → Heap → Prop} {l : Launch} (E : EH Γ HI l) {S : St} {a0 : Option Nat} {a1 : Int32} {a2 : Int32} {a3 : Int32} {a4 : Int32} {r : Int32} {S1 : St} (h : n_X3_answersAnew S a0 a1 a2 a3 a4 = some (r, S1)) : MS Γ HI l yX3_answersAnew cX3_answersAnew 13 (some (Jvm.ClassFile.FieldType.int)) 5 S [vR a0, vI a1, vI a2, vI a3, vI a4] (.inl (some (vI r))) S1 := by
  refine MS_of E.ntr E.hx (by decide +kernel) rfl (Nat.le_of_ble_eq_true rfl) fun K e1 e2 e3 e4 hnm C Q => ?_
  subst e1; subst e2; subst e3
  exact w_X3_answersAnew_b0m C E Q S a0 a1 a2 a3 a4 h

def n_X3_score_b87 (k30 : St → Option Nat → Int32 → Int32 → Int32 → Int32 → Int32 → Int32 → Option (Int32 × St)) (S : St) (x0 : Option Nat) (x1 : Int32) (x2 : Int32) (x3 : Int32) (x4 : Int32) (x6 : Int32) (y0 : Int32) : Option (Int32 × St) :=
  k30 S x0 x1 x2 x3 x4 y0 (x6 + 1)
def n_X3_score_b82 (k30 : St → Option Nat → Int32 → Int32 → Int32 → Int32 → Int32 → Int32 → Option (Int32 × St)) (S : St) (x0 : Option Nat) (x1 : Int32) (x2 : Int32) (x3 : Int32) (x4 : Int32) (x6 : Int32) : Option (Int32 × St) :=
  n_X3_score_b87 k30 S x0 x1 x2 x3 x4 x6 (1 : Int32)
def n_X3_score_b86 (k30 : St → Option Nat → Int32 → Int32 → Int32 → Int32 → Int32 → Int32 → Option (Int32 × St)) (S : St) (x0 : Option Nat) (x1 : Int32) (x2 : Int32) (x3 : Int32) (x4 : Int32) (x6 : Int32) : Option (Int32 × St) :=
  n_X3_score_b87 k30 S x0 x1 x2 x3 x4 x6 (0 : Int32)
def n_X3_score_b30 : Nat → St → Option Nat → Int32 → Int32 → Int32 → Int32 → Int32 → Int32 → Option (Int32 × St)
  | 0 => fun _ _ _ _ _ _ _ _ => none
  | n + 1 => fun S x0 x1 x2 x3 x4 x5 x6 =>
    (gR S x0 15 26).bind fun v1 =>
    (aI S v1 0 x1).bind fun v2 =>
    if v2 ≤ (x6 + (1 : Int32)) then
      if x5 = 0 then
        rtI id (Jvm.ClassFile.FieldType.int) x4 S
      else
        rtI id (Jvm.ClassFile.FieldType.int) (x4 + (10 : Int32)) S
    else
      if x5 = 0 then
        (gR S x0 15 27).bind fun v3 =>
        (aI S v3 0 (((20 : Int32) * x1) + x6)).bind fun v4 =>
        if v4 = x2 then
          (gR S x0 15 27).bind fun v5 =>
          (aI S v5 0 ((((20 : Int32) * x1) + x6) + (1 : Int32))).bind fun v6 =>
          if v6 = x3 then
            n_X3_score_b82 (n_X3_score_b30 n) S x0 x1 x2 x3 x4 x6
          else
            n_X3_score_b86 (n_X3_score_b30 n) S x0 x1 x2 x3 x4 x6
        else
          n_X3_score_b86 (n_X3_score_b30 n) S x0 x1 x2 x3 x4 x6
      else
        n_X3_score_b82 (n_X3_score_b30 n) S x0 x1 x2 x3 x4 x6
def n_X3_score_b21 (S : St) (x0 : Option Nat) (x1 : Int32) (x2 : Int32) (x3 : Int32) (y0 : Int32) (y1 : Int32) : Option (Int32 × St) :=
  n_X3_score_b30 FU S x0 x1 x2 x3 (y1 + y0) (0 : Int32) (0 : Int32)
def n_X3_score (S : St) (x0 : Option Nat) (x1 : Int32) (x2 : Int32) (x3 : Int32) : Option (Int32 × St) :=
  gd (grc S x0 15) <|
  bn (n_X3_often S x0 x1 x2) fun v2 S1 =>
  if x3 = (-1 : Int32) then
    n_X3_score_b21 S1 x0 x1 x2 x3 (0 : Int32) v2
  else
    gd (grc S1 x0 15) <|
    bn (n_X3_often S1 x0 x1 x3) fun v4 S3 =>
    n_X3_score_b21 S3 x0 x1 x2 x3 v4 v2
theorem w_X3_score_b87 {K : KT} {r : Int32} {S1 : St} (C : GC K RX3 cX3_score 7 3 []) (E : EH (kΓ K) (kHI K) (kl K)) (Q : GQ K (some (Jvm.ClassFile.FieldType.int)) (.inl (some (vI r))) S1) {k30 : St → Option Nat → Int32 → Int32 → Int32 → Int32 → Int32 → Int32 → Option (Int32 × St)} (h30 : ∀ (S : St) (x0 : Option Nat) (x1 : Int32) (x2 : Int32) (x3 : Int32) (x4 : Int32) (x5 : Int32) (x6 : Int32), k30 S x0 x1 x2 x3 x4 x5 x6 = some (r, S1) → G K 7 S 30 [(0, vR x0), (1, vI x1), (2, vI x2), (3, vI x3), (4, vI x4), (5, vI x5), (6, vI x6)] []) : ∀ (S : St) (x0 : Option Nat) (x1 : Int32) (x2 : Int32) (x3 : Int32) (x4 : Int32) (x6 : Int32) (y0 : Int32), n_X3_score_b87 k30 S x0 x1 x2 x3 x4 x6 y0 = some (r, S1) → G K 7 S 87 [(0, vR x0), (1, vI x1), (2, vI x2), (3, vI x3), (4, vI x4), (6, vI x6)] [vI y0] := by
  intro S x0 x1 x2 x3 x4 x6 y0 hd
  unfold n_X3_score_b87 at hd
  refine g_istore (L' := [(5, vI y0), (0, vR x0), (1, vI x1), (2, vI x2), (3, vI x3), (4, vI x4), (6, vI x6)]) C dX3_score_87 (by decide) rfl ?_
  refine g_iinc (v := x6 + 1) (L' := [(6, vI (x6 + 1)), (5, vI y0), (0, vR x0), (1, vI x1), (2, vI x2), (3, vI x3), (4, vI x4)]) C dX3_score_89 6 rfl rfl (by decide) rfl ?_
  refine g_goto (tgt := 30) C dX3_score_92 (by decide) ?_
  refine g_sub [2, 3, 4, 5, 6, 1, 0] rfl ?_
  exact h30 _ _ _ _ _ _ _ _ hd
theorem w_X3_score_b82 {K : KT} {r : Int32} {S1 : St} (C : GC K RX3 cX3_score 7 3 []) (E : EH (kΓ K) (kHI K) (kl K)) (Q : GQ K (some (Jvm.ClassFile.FieldType.int)) (.inl (some (vI r))) S1) {k30 : St → Option Nat → Int32 → Int32 → Int32 → Int32 → Int32 → Int32 → Option (Int32 × St)} (h30 : ∀ (S : St) (x0 : Option Nat) (x1 : Int32) (x2 : Int32) (x3 : Int32) (x4 : Int32) (x5 : Int32) (x6 : Int32), k30 S x0 x1 x2 x3 x4 x5 x6 = some (r, S1) → G K 7 S 30 [(0, vR x0), (1, vI x1), (2, vI x2), (3, vI x3), (4, vI x4), (5, vI x5), (6, vI x6)] []) : ∀ (S : St) (x0 : Option Nat) (x1 : Int32) (x2 : Int32) (x3 : Int32) (x4 : Int32) (x6 : Int32), n_X3_score_b82 k30 S x0 x1 x2 x3 x4 x6 = some (r, S1) → G K 7 S 82 [(0, vR x0), (1, vI x1), (2, vI x2), (3, vI x3), (4, vI x4), (6, vI x6)] [] := by
  intro S x0 x1 x2 x3 x4 x6 hd
  unfold n_X3_score_b82 at hd
  refine g_iconst (v := 1) C dX3_score_82 (by decide) ?_
  refine g_goto (tgt := 87) C dX3_score_83 (by decide) ?_
  refine g_sub [0, 1, 2, 3, 4, 5] rfl ?_
  exact w_X3_score_b87 C E Q h30 _ _ _ _ _ _ _ _ hd
theorem w_X3_score_b86 {K : KT} {r : Int32} {S1 : St} (C : GC K RX3 cX3_score 7 3 []) (E : EH (kΓ K) (kHI K) (kl K)) (Q : GQ K (some (Jvm.ClassFile.FieldType.int)) (.inl (some (vI r))) S1) {k30 : St → Option Nat → Int32 → Int32 → Int32 → Int32 → Int32 → Int32 → Option (Int32 × St)} (h30 : ∀ (S : St) (x0 : Option Nat) (x1 : Int32) (x2 : Int32) (x3 : Int32) (x4 : Int32) (x5 : Int32) (x6 : Int32), k30 S x0 x1 x2 x3 x4 x5 x6 = some (r, S1) → G K 7 S 30 [(0, vR x0), (1, vI x1), (2, vI x2), (3, vI x3), (4, vI x4), (5, vI x5), (6, vI x6)] []) : ∀ (S : St) (x0 : Option Nat) (x1 : Int32) (x2 : Int32) (x3 : Int32) (x4 : Int32) (x6 : Int32), n_X3_score_b86 k30 S x0 x1 x2 x3 x4 x6 = some (r, S1) → G K 7 S 86 [(0, vR x0), (1, vI x1), (2, vI x2), (3, vI x3), (4, vI x4), (6, vI x6)] [] := by
  intro S x0 x1 x2 x3 x4 x6 hd
  unfold n_X3_score_b86 at hd
  refine g_iconst (v := 0) C dX3_score_86 (by decide) ?_
  refine g_sub [0, 1, 2, 3, 4, 5] rfl ?_
  exact w_X3_score_b87 C E Q h30 _ _ _ _ _ _ _ _ hd
theorem w_X3_score_b30 {K : KT} {r : Int32} {S1 : St} (C : GC K RX3 cX3_score 7 3 []) (E : EH (kΓ K) (kHI K) (kl K)) (Q : GQ K (some (Jvm.ClassFile.FieldType.int)) (.inl (some (vI r))) S1) : ∀ (n : Nat) (S : St) (x0 : Option Nat) (x1 : Int32) (x2 : Int32) (x3 : Int32) (x4 : Int32) (x5 : Int32) (x6 : Int32), n_X3_score_b30 n S x0 x1 x2 x3 x4 x5 x6 = some (r, S1) → G K 7 S 30 [(0, vR x0), (1, vI x1), (2, vI x2), (3, vI x3), (4, vI x4), (5, vI x5), (6, vI x6)] [] := by
  intro n
  induction n with
  | zero => intro S x0 x1 x2 x3 x4 x5 x6 hd; cases hd
  | succ n ih =>
    intro S x0 x1 x2 x3 x4 x5 x6 hd
    unfold n_X3_score_b30 at hd
    refine g_iload C dX3_score_30 6 rfl ?_
    refine g_iconst (v := 1) C dX3_score_32 (by decide) ?_
    refine g_iadd C dX3_score_33 ?_
    refine g_aload_n C dX3_score_34 rfl 0 rfl ?_
    obtain ⟨v1, hv1, hd⟩ := Option.bind_eq_some_iff.mp hd
    refine g_fld C gk_X3 (k := 26) (by decide) q1992 (Or.inl rfl) dX3_score_35 (gR_v hv1) ?_
    refine g_iload_n C dX3_score_38 rfl 1 rfl ?_
    obtain ⟨v2, hv2, hd⟩ := Option.bind_eq_some_iff.mp hd
    refine g_ialdV C dX3_score_39 hv2 ?_
    refine g_icmp_ge (tgt := 95) C dX3_score_40 (by decide) hd (fun hd => ?_) (fun hd => ?_)
    · refine g_iload C dX3_score_95 5 rfl ?_
      refine g_if_eq (tgt := 108) C dX3_score_97 (by decide) hd (fun hd => ?_) (fun hd => ?_)
      · refine g_iload C dX3_score_108 4 rfl ?_
        exact g_iret C Q hd dX3_score_110
      · refine g_iload C dX3_score_100 4 rfl ?_
        refine g_bipush (v := 10) C dX3_score_102 (by decide) ?_
        refine g_iadd C dX3_score_104 ?_
        refine g_goto (tgt := 110) C dX3_score_105 (by decide) ?_
        exact g_iret C Q hd dX3_score_110
    · refine g_iload C dX3_score_43 5 rfl ?_
      refine g_if_ne (tgt := 82) C dX3_score_45 (by decide) hd (fun hd => ?_) (fun hd => ?_)
      · refine g_sub [0, 1, 2, 3, 4, 6] rfl ?_
        exact w_X3_score_b82 C E Q ih _ _ _ _ _ _ _ hd
      · refine g_aload_n C dX3_score_48 rfl 0 rfl ?_
        obtain ⟨v3, hv3, hd⟩ := Option.bind_eq_some_iff.mp hd
        refine g_fld C gk_X3 (k := 27) (by decide) q1993 (Or.inl rfl) dX3_score_49 (gR_v hv3) ?_
        refine g_bipush (v := 20) C dX3_score_52 (by decide) ?_
        refine g_iload_n C dX3_score_54 rfl 1 rfl ?_
        refine g_imul C dX3_score_55 ?_
        refine g_iload C dX3_score_56 6 rfl ?_
        refine g_iadd C dX3_score_58 ?_
        obtain ⟨v4, hv4, hd⟩ := Option.bind_eq_some_iff.mp hd
        refine g_ialdV C dX3_score_59 hv4 ?_
        refine g_iload_n C dX3_score_60 rfl 2 rfl ?_
        refine g_icmp_ne (tgt := 86) C dX3_score_61 (by decide) hd (fun hd => ?_) (fun hd => ?_)
        · refine g_sub [0, 1, 2, 3, 4, 6] rfl ?_
          exact w_X3_score_b86 C E Q ih _ _ _ _ _ _ _ hd
        · refine g_aload_n C dX3_score_64 rfl 0 rfl ?_
          obtain ⟨v5, hv5, hd⟩ := Option.bind_eq_some_iff.mp hd
          refine g_fld C gk_X3 (k := 27) (by decide) q1993 (Or.inl rfl) dX3_score_65 (gR_v hv5) ?_
          refine g_bipush (v := 20) C dX3_score_68 (by decide) ?_
          refine g_iload_n C dX3_score_70 rfl 1 rfl ?_
          refine g_imul C dX3_score_71 ?_
          refine g_iload C dX3_score_72 6 rfl ?_
          refine g_iadd C dX3_score_74 ?_
          refine g_iconst (v := 1) C dX3_score_75 (by decide) ?_
          refine g_iadd C dX3_score_76 ?_
          obtain ⟨v6, hv6, hd⟩ := Option.bind_eq_some_iff.mp hd
          refine g_ialdV C dX3_score_77 hv6 ?_
          refine g_iload_n C dX3_score_78 rfl 3 rfl ?_
          refine g_icmp_ne (tgt := 86) C dX3_score_79 (by decide) hd (fun hd => ?_) (fun hd => ?_)
          · refine g_sub [0, 1, 2, 3, 4, 6] rfl ?_
            exact w_X3_score_b86 C E Q ih _ _ _ _ _ _ _ hd
          · refine g_sub [0, 1, 2, 3, 4, 6] rfl ?_
            exact w_X3_score_b82 C E Q ih _ _ _ _ _ _ _ hd
theorem w_X3_score_b21 {K : KT} {r : Int32} {S1 : St} (C : GC K RX3 cX3_score 7 3 []) (E : EH (kΓ K) (kHI K) (kl K)) (Q : GQ K (some (Jvm.ClassFile.FieldType.int)) (.inl (some (vI r))) S1) : ∀ (S : St) (x0 : Option Nat) (x1 : Int32) (x2 : Int32) (x3 : Int32) (y0 : Int32) (y1 : Int32), n_X3_score_b21 S x0 x1 x2 x3 y0 y1 = some (r, S1) → G K 7 S 21 [(0, vR x0), (1, vI x1), (2, vI x2), (3, vI x3)] [vI y0, vI y1] := by
  intro S x0 x1 x2 x3 y0 y1 hd
  unfold n_X3_score_b21 at hd
  refine g_iadd C dX3_score_21 ?_
  refine g_istore (L' := [(4, vI (y1 + y0)), (0, vR x0), (1, vI x1), (2, vI x2), (3, vI x3)]) C dX3_score_22 (by decide) rfl ?_
  refine g_iconst (v := 0) C dX3_score_24 (by decide) ?_
  refine g_istore (L' := [(5, vI (0 : Int32)), (4, vI (y1 + y0)), (0, vR x0), (1, vI x1), (2, vI x2), (3, vI x3)]) C dX3_score_25 (by decide) rfl ?_
  refine g_iconst (v := 0) C dX3_score_27 (by decide) ?_
  refine g_istore (L' := [(6, vI (0 : Int32)), (5, vI (0 : Int32)), (4, vI (y1 + y0)), (0, vR x0), (1, vI x1), (2, vI x2), (3, vI x3)]) C dX3_score_28 (by decide) rfl ?_
  refine g_sub [3, 4, 5, 6, 2, 1, 0] rfl ?_
  exact w_X3_score_b30 C E Q FU _ _ _ _ _ _ _ _ hd
theorem w_X3_score_b0m {K : KT} {r : Int32} {S1 : St} (C : GC K RX3 cX3_score 7 3 []) (E : EH (kΓ K) (kHI K) (kl K)) (Q : GQ K (some (Jvm.ClassFile.FieldType.int)) (.inl (some (vI r))) S1) : ∀ (S : St) (x0 : Option Nat) (x1 : Int32) (x2 : Int32) (x3 : Int32), n_X3_score S x0 x1 x2 x3 = some (r, S1) → G K 7 S 0 [(0, vR x0), (1, vI x1), (2, vI x2), (3, vI x3)] [] := by
  intro S x0 x1 x2 x3 hd
  unfold n_X3_score at hd
  refine g_aload_n C dX3_score_0 rfl 0 rfl ?_
  refine g_iload_n C dX3_score_1 rfl 1 rfl ?_
  refine g_iload_n C dX3_score_2 rfl 2 rfl ?_
  obtain ⟨hg, hd⟩ := gd_some hd
  obtain ⟨v2, S1, hc, hd⟩ := bn_some hd
  refine g_cV_v (n := 2) C (gk_X3).1 q2384 q2386 qs92 q108 q2387 (by decide +kernel) (by decide) (by decide) dX3_score_3 (As := [vI x1, vI x2]) (rest := []) rfl rfl (Nat.le_of_ble_eq_true rfl) hg (m_X3_often E hc) ?_
  refine g_iload_n C dX3_score_6 rfl 3 rfl ?_
  refine g_iconst (v := (-1)) C dX3_score_7 (by decide) ?_
  refine g_icmp_ne (tgt := 15) C dX3_score_8 (by decide) hd (fun hd => ?_) (fun hd => ?_)
  · refine g_aload_n C dX3_score_15 rfl 0 rfl ?_
    refine g_iload_n C dX3_score_16 rfl 1 rfl ?_
    refine g_iload_n C dX3_score_17 rfl 3 rfl ?_
    obtain ⟨hg, hd⟩ := gd_some hd
    obtain ⟨v4, S3, hc, hd⟩ := bn_some hd
    refine g_cV_v (n := 2) C (gk_X3).1 q2384 q2386 qs92 q108 q2387 (by decide +kernel) (by decide) (by decide) dX3_score_18 (As := [vI x1, vI x3]) (rest := [vI v2]) rfl rfl (Nat.le_of_ble_eq_true rfl) hg (m_X3_often E hc) ?_
    refine g_sub [0, 1, 2, 3] rfl ?_
    exact w_X3_score_b21 C E Q _ _ _ _ _ _ _ hd
  · refine g_iconst (v := 0) C dX3_score_11 (by decide) ?_
    refine g_goto (tgt := 21) C dX3_score_12 (by decide) ?_
    refine g_sub [0, 1, 2, 3] rfl ?_
    exact w_X3_score_b21 C E Q _ _ _ _ _ _ _ hd
theorem m_X3_score {Γ : GG} {HI : St → Heap → Prop} {l : Launch} (E : EH Γ HI l) {S : St} {a0 : Option Nat} {a1 : Int32} {a2 : Int32} {a3 : Int32} {r : Int32} {S1 : St} (h : n_X3_score S a0 a1 a2 a3 = some (r, S1)) : MS Γ HI l yX3_score cX3_score 7 (some (Jvm.ClassFile.FieldType.int)) 3 S [vR a0, vI a1, vI a2, vI a3] (.inl (some (vI r))) S1 := by
  refine MS_of E.ntr E.hx (by decide +kernel) rfl (Nat.le_of_ble_eq_true rfl) fun K e1 e2 e3 e4 hnm C Q => ?_
  subst e1; subst e2; subst e3
  exact w_X3_score_b0m C E Q S a0 a1 a2 a3 h

def n_X3_answer_b164 (k45 : St → Option Nat → Int32 → Int32 → Int32 → Int32 → Int32 → Option (Int32 × St)) (k83 : St → Option Nat → Int32 → Int32 → Int32 → Int32 → Int32 → Int32 → Int32 → Int32 → Option (Int32 × St)) (S : St) (x0 : Option Nat) (x1 : Int32) (x2 : Int32) (x3 : Int32) (x4 : Int32) (x5 : Int32) (x7 : Int32) (x8 : Int32) (y0 : Int32) (y1 : Int32) : Option (Int32 × St) :=
  k83 S x0 x1 x2 x3 x4 x5 (y1 + y0) x7 (x8 + 1)
def n_X3_answer_b159 (k45 : St → Option Nat → Int32 → Int32 → Int32 → Int32 → Int32 → Option (Int32 × St)) (k83 : St → Option Nat → Int32 → Int32 → Int32 → Int32 → Int32 → Int32 → Int32 → Int32 → Option (Int32 × St)) (S : St) (x0 : Option Nat) (x1 : Int32) (x2 : Int32) (x3 : Int32) (x4 : Int32) (x5 : Int32) (x7 : Int32) (x8 : Int32) (y0 : Int32) : Option (Int32 × St) :=
  n_X3_answer_b164 k45 k83 S x0 x1 x2 x3 x4 x5 x7 x8 (1 : Int32) y0
def n_X3_answer_b163 (k45 : St → Option Nat → Int32 → Int32 → Int32 → Int32 → Int32 → Option (Int32 × St)) (k83 : St → Option Nat → Int32 → Int32 → Int32 → Int32 → Int32 → Int32 → Int32 → Int32 → Option (Int32 × St)) (S : St) (x0 : Option Nat) (x1 : Int32) (x2 : Int32) (x3 : Int32) (x4 : Int32) (x5 : Int32) (x7 : Int32) (x8 : Int32) (y0 : Int32) : Option (Int32 × St) :=
  n_X3_answer_b164 k45 k83 S x0 x1 x2 x3 x4 x5 x7 x8 (0 : Int32) y0
def n_X3_answer_b117 (k45 : St → Option Nat → Int32 → Int32 → Int32 → Int32 → Int32 → Option (Int32 × St)) (k83 : St → Option Nat → Int32 → Int32 → Int32 → Int32 → Int32 → Int32 → Int32 → Int32 → Option (Int32 × St)) (S : St) (x0 : Option Nat) (x1 : Int32) (x2 : Int32) (x3 : Int32) (x4 : Int32) (x5 : Int32) (x6 : Int32) (x7 : Int32) (x8 : Int32) (y0 : Int32) : Option (Int32 × St) :=
  if y0 = 0 then
    n_X3_answer_b163 k45 k83 S x0 x1 x2 x3 x4 x5 x7 x8 x6
  else
    gd (grc S x0 15) <|
    bn (n_X3_score S x0 x8 x2 x3) fun v2 S1 =>
    if x7 < v2 then
      n_X3_answer_b159 k45 k83 S1 x0 x1 x2 x3 x4 x5 x7 x8 x6
    else
      gd (grc S1 x0 15) <|
      bn (n_X3_score S1 x0 x8 x2 x3) fun v4 S3 =>
      if v4 = x7 then
        if x5 ≤ x8 then
          n_X3_answer_b163 k45 k83 S3 x0 x1 x2 x3 x4 x5 x7 x8 x6
        else
          n_X3_answer_b159 k45 k83 S3 x0 x1 x2 x3 x4 x5 x7 x8 x6
      else
        n_X3_answer_b163 k45 k83 S3 x0 x1 x2 x3 x4 x5 x7 x8 x6
def n_X3_answer_b116 (k45 : St → Option Nat → Int32 → Int32 → Int32 → Int32 → Int32 → Option (Int32 × St)) (k83 : St → Option Nat → Int32 → Int32 → Int32 → Int32 → Int32 → Int32 → Int32 → Int32 → Option (Int32 × St)) (S : St) (x0 : Option Nat) (x1 : Int32) (x2 : Int32) (x3 : Int32) (x4 : Int32) (x5 : Int32) (x6 : Int32) (x7 : Int32) (x8 : Int32) : Option (Int32 × St) :=
  n_X3_answer_b117 k45 k83 S x0 x1 x2 x3 x4 x5 x6 x7 x8 (0 : Int32)
def n_X3_answer_b189 (k45 : St → Option Nat → Int32 → Int32 → Int32 → Int32 → Int32 → Option (Int32 × St)) (S : St) (x0 : Option Nat) (x1 : Int32) (x2 : Int32) (x3 : Int32) (x4 : Int32) (x5 : Int32) : Option (Int32 × St) :=
  k45 S x0 x1 x2 x3 x4 (x5 + 1)
def n_X3_answer_b83 (k45 : St → Option Nat → Int32 → Int32 → Int32 → Int32 → Int32 → Option (Int32 × St)) : Nat → St → Option Nat → Int32 → Int32 → Int32 → Int32 → Int32 → Int32 → Int32 → Int32 → Option (Int32 × St)
  | 0 => fun _ _ _ _ _ _ _ _ _ _ => none
  | n + 1 => fun S x0 x1 x2 x3 x4 x5 x6 x7 x8 =>
    (gI S x0 15 2).bind fun v1 =>
    if v1 ≤ x8 then
      if x6 = x4 then
        rtI id (Jvm.ClassFile.FieldType.int) (((100 : Int32) * x7) + x5) S
      else
        n_X3_answer_b189 k45 S x0 x1 x2 x3 x4 x5
    else
      if x8 = x5 then
        n_X3_answer_b116 k45 (n_X3_answer_b83 k45 n) S x0 x1 x2 x3 x4 x5 x6 x7 x8
      else
        gd (grc S x0 15) <|
        bn (n_X3_isAnswer S x0 x8 x1 x2 x3 (-1 : Int32)) fun v3 S2 =>
        if v3 = 0 then
          n_X3_answer_b116 k45 (n_X3_answer_b83 k45 n) S2 x0 x1 x2 x3 x4 x5 x6 x7 x8
        else
          n_X3_answer_b117 k45 (n_X3_answer_b83 k45 n) S2 x0 x1 x2 x3 x4 x5 x6 x7 x8 (1 : Int32)
def n_X3_answer_b45 : Nat → St → Option Nat → Int32 → Int32 → Int32 → Int32 → Int32 → Option (Int32 × St)
  | 0 => fun _ _ _ _ _ _ _ => none
  | n + 1 => fun S x0 x1 x2 x3 x4 x5 =>
    (gI S x0 15 2).bind fun v1 =>
    if v1 ≤ x5 then
      gd (grc S x0 15) <|
      bn (n_X3_fails S x0 (1 : Int32)) fun v3 S2 =>
      rtI id (Jvm.ClassFile.FieldType.int) v3 S2
    else
      gd (grc S x0 15) <|
      bn (n_X3_isAnswer S x0 x5 x1 x2 x3 (-1 : Int32)) fun v5 S4 =>
      if v5 = 0 then
        n_X3_answer_b189 (n_X3_answer_b45 n) S4 x0 x1 x2 x3 x4 x5
      else
        gd (grc S4 x0 15) <|
        bn (n_X3_score S4 x0 x5 x2 x3) fun v7 S6 =>
        n_X3_answer_b83 (n_X3_answer_b45 n) FU S6 x0 x1 x2 x3 x4 x5 (0 : Int32) v7 (0 : Int32)
def n_X3_answer_b30 (S : St) (x0 : Option Nat) (x1 : Int32) (x2 : Int32) (x3 : Int32) (x4 : Int32) (y0 : Int32) (y1 : Option Nat) : Option (Int32 × St) :=
  (pI .int S y1 15 0 y0).bind fun S1 =>
  (gI S1 x0 15 0).bind fun v2 =>
  if v2 ≤ 0 then
    n_X3_answer_b45 FU S1 x0 x1 x2 x3 x4 (0 : Int32)
  else
    rtI id (Jvm.ClassFile.FieldType.int) (0 : Int32) S1
def n_X3_answer (S : St) (x0 : Option Nat) (x1 : Int32) (x2 : Int32) (x3 : Int32) (x4 : Int32) : Option (Int32 × St) :=
  bn (n_X3_in S x1 (0 : Int32) (3 : Int32)) fun v2 S1 =>
  if v2 = 0 then
    gd (grc S1 x0 15) <|
    bn (n_X3_fails S1 x0 (1 : Int32)) fun v6 S5 =>
    rtI id (Jvm.ClassFile.FieldType.int) v6 S5
  else
    gd (grc S1 x0 15) <|
    bn (n_X3_areWords S1 x0 x2 x3) fun v4 S3 =>
    if v4 = 0 then
      n_X3_answer_b30 S3 x0 x1 x2 x3 x4 (2 : Int32) x0
    else
      n_X3_answer_b30 S3 x0 x1 x2 x3 x4 (0 : Int32) x0
theorem w_X3_answer_b164 {K : KT} {r : Int32} {S1 : St} (C : GC K RX3 cX3_answer 10 5 []) (E : EH (kΓ K) (kHI K) (kl K)) (Q : GQ K (some (Jvm.ClassFile.FieldType.int)) (.inl (some (vI r))) S1) {k45 : St → Option Nat → Int32 → Int32 → Int32 → Int32 → Int32 → Option (Int32 × St)} (h45 : ∀ (S : St) (x0 : Option Nat) (x1 : Int32) (x2 : Int32) (x3 : Int32) (x4 : Int32) (x5 : Int32), k45 S x0 x1 x2 x3 x4 x5 = some (r, S1) → G K 10 S 45 [(0, vR x0), (1, vI x1), (2, vI x2), (3, vI x3), (4, vI x4), (5, vI x5)] []) {k83 : St → Option Nat → Int32 → Int32 → Int32 → Int32 → Int32 → Int32 → Int32 → Int32 → Option (Int32 × St)} (h83 : ∀ (S : St) (x0 : Option Nat) (x1 : Int32) (x2 : Int32) (x3 : Int32) (x4 : Int32) (x5 : Int32) (x6 : Int32) (x7 : Int32) (x8 : Int32), k83 S x0 x1 x2 x3 x4 x5 x6 x7 x8 = some (r, S1) → G K 10 S 83 [(0, vR x0), (1, vI x1), (2, vI x2), (3, vI x3), (4, vI x4), (5, vI x5), (6, vI x6), (7, vI x7), (8, vI x8)] []) : ∀ (S : St) (x0 : Option Nat) (x1 : Int32) (x2 : Int32) (x3 : Int32) (x4 : Int32) (x5 : Int32) (x7 : Int32) (x8 : Int32) (y0 : Int32) (y1 : Int32), n_X3_answer_b164 k45 k83 S x0 x1 x2 x3 x4 x5 x7 x8 y0 y1 = some (r, S1) → G K 10 S 164 [(0, vR x0), (1, vI x1), (2, vI x2), (3, vI x3), (4, vI x4), (5, vI x5), (7, vI x7), (8, vI x8)] [vI y0, vI y1] := by
  intro S x0 x1 x2 x3 x4 x5 x7 x8 y0 y1 hd
  unfold n_X3_answer_b164 at hd
  refine g_iadd C dX3_answer_164 ?_
  refine g_istore (L' := [(6, vI (y1 + y0)), (0, vR x0), (1, vI x1), (2, vI x2), (3, vI x3), (4, vI x4), (5, vI x5), (7, vI x7), (8, vI x8)]) C dX3_answer_165 (by decide) rfl ?_
  refine g_iinc (v := x8 + 1) (L' := [(8, vI (x8 + 1)), (6, vI (y1 + y0)), (0, vR x0), (1, vI x1), (2, vI x2), (3, vI x3), (4, vI x4), (5, vI x5), (7, vI x7)]) C dX3_answer_167 8 rfl rfl (by decide) rfl ?_
  refine g_goto (tgt := 83) C dX3_answer_170 (by decide) ?_
  refine g_sub [2, 3, 4, 5, 6, 7, 1, 8, 0] rfl ?_
  exact h83 _ _ _ _ _ _ _ _ _ _ hd
theorem w_X3_answer_b159 {K : KT} {r : Int32} {S1 : St} (C : GC K RX3 cX3_answer 10 5 []) (E : EH (kΓ K) (kHI K) (kl K)) (Q : GQ K (some (Jvm.ClassFile.FieldType.int)) (.inl (some (vI r))) S1) {k45 : St → Option Nat → Int32 → Int32 → Int32 → Int32 → Int32 → Option (Int32 × St)} (h45 : ∀ (S : St) (x0 : Option Nat) (x1 : Int32) (x2 : Int32) (x3 : Int32) (x4 : Int32) (x5 : Int32), k45 S x0 x1 x2 x3 x4 x5 = some (r, S1) → G K 10 S 45 [(0, vR x0), (1, vI x1), (2, vI x2), (3, vI x3), (4, vI x4), (5, vI x5)] []) {k83 : St → Option Nat → Int32 → Int32 → Int32 → Int32 → Int32 → Int32 → Int32 → Int32 → Option (Int32 × St)} (h83 : ∀ (S : St) (x0 : Option Nat) (x1 : Int32) (x2 : Int32) (x3 : Int32) (x4 : Int32) (x5 : Int32) (x6 : Int32) (x7 : Int32) (x8 : Int32), k83 S x0 x1 x2 x3 x4 x5 x6 x7 x8 = some (r, S1) → G K 10 S 83 [(0, vR x0), (1, vI x1), (2, vI x2), (3, vI x3), (4, vI x4), (5, vI x5), (6, vI x6), (7, vI x7), (8, vI x8)] []) : ∀ (S : St) (x0 : Option Nat) (x1 : Int32) (x2 : Int32) (x3 : Int32) (x4 : Int32) (x5 : Int32) (x7 : Int32) (x8 : Int32) (y0 : Int32), n_X3_answer_b159 k45 k83 S x0 x1 x2 x3 x4 x5 x7 x8 y0 = some (r, S1) → G K 10 S 159 [(0, vR x0), (1, vI x1), (2, vI x2), (3, vI x3), (4, vI x4), (5, vI x5), (7, vI x7), (8, vI x8)] [vI y0] := by
  intro S x0 x1 x2 x3 x4 x5 x7 x8 y0 hd
  unfold n_X3_answer_b159 at hd
  refine g_iconst (v := 1) C dX3_answer_159 (by decide) ?_
  refine g_goto (tgt := 164) C dX3_answer_160 (by decide) ?_
  refine g_sub [0, 1, 2, 3, 4, 5, 6, 7] rfl ?_
  exact w_X3_answer_b164 C E Q h45 h83 _ _ _ _ _ _ _ _ _ _ _ hd
theorem w_X3_answer_b163 {K : KT} {r : Int32} {S1 : St} (C : GC K RX3 cX3_answer 10 5 []) (E : EH (kΓ K) (kHI K) (kl K)) (Q : GQ K (some (Jvm.ClassFile.FieldType.int)) (.inl (some (vI r))) S1) {k45 : St → Option Nat → Int32 → Int32 → Int32 → Int32 → Int32 → Option (Int32 × St)} (h45 : ∀ (S : St) (x0 : Option Nat) (x1 : Int32) (x2 : Int32) (x3 : Int32) (x4 : Int32) (x5 : Int32), k45 S x0 x1 x2 x3 x4 x5 = some (r, S1) → G K 10 S 45 [(0, vR x0), (1, vI x1), (2, vI x2), (3, vI x3), (4, vI x4), (5, vI x5)] []) {k83 : St → Option Nat → Int32 → Int32 → Int32 → Int32 → Int32 → Int32 → Int32 → Int32 → Option (Int32 × St)} (h83 : ∀ (S : St) (x0 : Option Nat) (x1 : Int32) (x2 : Int32) (x3 : Int32) (x4 : Int32) (x5 : Int32) (x6 : Int32) (x7 : Int32) (x8 : Int32), k83 S x0 x1 x2 x3 x4 x5 x6 x7 x8 = some (r, S1) → G K 10 S 83 [(0, vR x0), (1, vI x1), (2, vI x2), (3, vI x3), (4, vI x4), (5, vI x5), (6, vI x6), (7, vI x7), (8, vI x8)] []) : ∀ (S : St) (x0 : Option Nat) (x1 : Int32) (x2 : Int32) (x3 : Int32) (x4 : Int32) (x5 : Int32) (x7 : Int32) (x8 : Int32) (y0 : Int32), n_X3_answer_b163 k45 k83 S x0 x1 x2 x3 x4 x5 x7 x8 y0 = some (r, S1) → G K 10 S 163 [(0, vR x0), (1, vI x1), (2, vI x2), (3, vI x3), (4, vI x4), (5, vI x5), (7, vI x7), (8, vI x8)] [vI y0] := by
  intro S x0 x1 x2 x3 x4 x5 x7 x8 y0 hd
  unfold n_X3_answer_b163 at hd
  refine g_iconst (v := 0) C dX3_answer_163 (by decide) ?_
  refine g_sub [0, 1, 2, 3, 4, 5, 6, 7] rfl ?_
  exact w_X3_answer_b164 C E Q h45 h83 _ _ _ _ _ _ _ _ _ _ _ hd
theorem w_X3_answer_b117 {K : KT} {r : Int32} {S1 : St} (C : GC K RX3 cX3_answer 10 5 []) (E : EH (kΓ K) (kHI K) (kl K)) (Q : GQ K (some (Jvm.ClassFile.FieldType.int)) (.inl (some (vI r))) S1) {k45 : St → Option Nat → Int32 → Int32 → Int32 → Int32 → Int32 → Option (Int32 × St)} (h45 : ∀ (S : St) (x0 : Option Nat) (x1 : Int32) (x2 : Int32) (x3 : Int32) (x4 : Int32) (x5 : Int32), k45 S x0 x1 x2 x3 x4 x5 = some (r, S1) → G K 10 S 45 [(0, vR x0), (1, vI x1), (2, vI x2), (3, vI x3), (4, vI x4), (5, vI x5)] []) {k83 : St → Option Nat → Int32 → Int32 → Int32 → Int32 → Int32 → Int32 → Int32 → Int32 → Option (Int32 × St)} (h83 : ∀ (S : St) (x0 : Option Nat) (x1 : Int32) (x2 : Int32) (x3 : Int32) (x4 : Int32) (x5 : Int32) (x6 : Int32) (x7 : Int32) (x8 : Int32), k83 S x0 x1 x2 x3 x4 x5 x6 x7 x8 = some (r, S1) → G K 10 S 83 [(0, vR x0), (1, vI x1), (2, vI x2), (3, vI x3), (4, vI x4), (5, vI x5), (6, vI x6), (7, vI x7), (8, vI x8)] []) : ∀ (S : St) (x0 : Option Nat) (x1 : Int32) (x2 : Int32) (x3 : Int32) (x4 : Int32) (x5 : Int32) (x6 : Int32) (x7 : Int32) (x8 : Int32) (y0 : Int32), n_X3_answer_b117 k45 k83 S x0 x1 x2 x3 x4 x5 x6 x7 x8 y0 = some (r, S1) → G K 10 S 117 [(0, vR x0), (1, vI x1), (2, vI x2), (3, vI x3), (4, vI x4), (5, vI x5), (6, vI x6), (7, vI x7), (8, vI x8)] [vI y0] := by
  intro S x0 x1 x2 x3 x4 x5 x6 x7 x8 y0 hd
  unfold n_X3_answer_b117 at hd
  refine g_istore (L' := [(9, vI y0), (0, vR x0), (1, vI x1), (2, vI x2), (3, vI x3), (4, vI x4), (5, vI x5), (6, vI x6), (7, vI x7), (8, vI x8)]) C dX3_answer_117 (by decide) rfl ?_
  refine g_iload C dX3_answer_119 7 rfl ?_
  refine g_iload C dX3_answer_121 0 rfl ?_
  refine g_if_eq (tgt := 163) C dX3_answer_123 (by decide) hd (fun hd => ?_) (fun hd => ?_)
  · refine g_sub [1, 2, 3, 4, 5, 6, 8, 9] rfl ?_
    exact w_X3_answer_b163 C E Q h45 h83 _ _ _ _ _ _ _ _ _ _ hd
  · refine g_aload_n C dX3_answer_126 rfl 1 rfl ?_
    refine g_iload C dX3_answer_127 9 rfl ?_
    refine g_iload_n C dX3_answer_129 rfl 3 rfl ?_
    refine g_iload_n C dX3_answer_130 rfl 4 rfl ?_
    obtain ⟨hg, hd⟩ := gd_some hd
    obtain ⟨v2, S1, hc, hd⟩ := bn_some hd
    refine g_cV_v (n := 3) C (gk_X3).1 q2396 q2398 qs93 q108 q2399 (by decide +kernel) (by decide) (by decide) dX3_answer_131 (As := [vI x8, vI x2, vI x3]) (rest := [vI x6]) rfl rfl (Nat.le_of_ble_eq_true rfl) hg (m_X3_score E hc) ?_
    refine g_iload C dX3_answer_134 8 rfl ?_
    refine g_icmp_gt (tgt := 159) C dX3_answer_136 (by decide) hd (fun hd => ?_) (fun hd => ?_)
    · refine g_sub [1, 2, 3, 4, 5, 6, 8, 9] rfl ?_
      exact w_X3_answer_b159 C E Q h45 h83 _ _ _ _ _ _ _ _ _ _ hd
    · refine g_aload_n C dX3_answer_139 rfl 1 rfl ?_
      refine g_iload C dX3_answer_140 9 rfl ?_
      refine g_iload_n C dX3_answer_142 rfl 3 rfl ?_
      refine g_iload_n C dX3_answer_143 rfl 4 rfl ?_
      obtain ⟨hg, hd⟩ := gd_some hd
      obtain ⟨v4, S3, hc, hd⟩ := bn_some hd
      refine g_cV_v (n := 3) C (gk_X3).1 q2396 q2398 qs93 q108 q2399 (by decide +kernel) (by decide) (by decide) dX3_answer_144 (As := [vI x8, vI x2, vI x3]) (rest := [vI x6]) rfl rfl (Nat.le_of_ble_eq_true rfl) hg (m_X3_score E hc) ?_
      refine g_iload C dX3_answer_147 8 rfl ?_
      refine g_icmp_ne (tgt := 163) C dX3_answer_149 (by decide) hd (fun hd => ?_) (fun hd => ?_)
      · refine g_sub [1, 2, 3, 4, 5, 6, 8, 9] rfl ?_
        exact w_X3_answer_b163 C E Q h45 h83 _ _ _ _ _ _ _ _ _ _ hd
      · refine g_iload C dX3_answer_152 9 rfl ?_
        refine g_iload C dX3_answer_154 6 rfl ?_
        refine g_icmp_ge (tgt := 163) C dX3_answer_156 (by decide) hd (fun hd => ?_) (fun hd => ?_)
        · refine g_sub [1, 2, 3, 4, 5, 6, 8, 9] rfl ?_
          exact w_X3_answer_b163 C E Q h45 h83 _ _ _ _ _ _ _ _ _ _ hd
        · refine g_sub [1, 2, 3, 4, 5, 6, 8, 9] rfl ?_
          exact w_X3_answer_b159 C E Q h45 h83 _ _ _ _ _ _ _ _ _ _ hd
theorem w_X3_answer_b116 {K : KT} {r : Int32} {S1 : St} (C : GC K RX3 cX3_answer 10 5 []) (E : EH (kΓ K) (kHI K) (kl K)) (Q : GQ K (some (Jvm.ClassFile.FieldType.int)) (.inl (some (vI r))) S1) {k45 : St → Option Nat → Int32 → Int32 → Int32 → Int32 → Int32 → Option (Int32 × St)} (h45 : ∀ (S : St) (x0 : Option Nat) (x1 : Int32) (x2 : Int32) (x3 : Int32) (x4 : Int32) (x5 : Int32), k45 S x0 x1 x2 x3 x4 x5 = some (r, S1) → G K 10 S 45 [(0, vR x0), (1, vI x1), (2, vI x2), (3, vI x3), (4, vI x4), (5, vI x5)] []) {k83 : St → Option Nat → Int32 → Int32 → Int32 → Int32 → Int32 → Int32 → Int32 → Int32 → Option (Int32 × St)} (h83 : ∀ (S : St) (x0 : Option Nat) (x1 : Int32) (x2 : Int32) (x3 : Int32) (x4 : Int32) (x5 : Int32) (x6 : Int32) (x7 : Int32) (x8 : Int32), k83 S x0 x1 x2 x3 x4 x5 x6 x7 x8 = some (r, S1) → G K 10 S 83 [(0, vR x0), (1, vI x1), (2, vI x2), (3, vI x3), (4, vI x4), (5, vI x5), (6, vI x6), (7, vI x7), (8, vI x8)] []) : ∀ (S : St) (x0 : Option Nat) (x1 : Int32) (x2 : Int32) (x3 : Int32) (x4 : Int32) (x5 : Int32) (x6 : Int32) (x7 : Int32) (x8 : Int32), n_X3_answer_b116 k45 k83 S x0 x1 x2 x3 x4 x5 x6 x7 x8 = some (r, S1) → G K 10 S 116 [(0, vR x0), (1, vI x1), (2, vI x2), (3, vI x3), (4, vI x4), (5, vI x5), (6, vI x6), (7, vI x7), (8, vI x8)] [] := by
  intro S x0 x1 x2 x3 x4 x5 x6 x7 x8 hd
  unfold n_X3_answer_b116 at hd
  refine g_iconst (v := 0) C dX3_answer_116 (by decide) ?_
  refine g_sub [0, 1, 2, 3, 4, 5, 6, 7, 8] rfl ?_
  exact w_X3_answer_b117 C E Q h45 h83 _ _ _ _ _ _ _ _ _ _ _ hd
theorem w_X3_answer_b189 {K : KT} {r : Int32} {S1 : St} (C : GC K RX3 cX3_answer 10 5 []) (E : EH (kΓ K) (kHI K) (kl K)) (Q : GQ K (some (Jvm.ClassFile.FieldType.int)) (.inl (some (vI r))) S1) {k45 : St → Option Nat → Int32 → Int32 → Int32 → Int32 → Int32 → Option (Int32 × St)} (h45 : ∀ (S : St) (x0 : Option Nat) (x1 : Int32) (x2 : Int32) (x3 : Int32) (x4 : Int32) (x5 : Int32), k45 S x0 x1 x2 x3 x4 x5 = some (r, S1) → G K 10 S 45 [(0, vR x0), (1, vI x1), (2, vI x2), (3, vI x3), (4, vI x4), (5, vI x5)] []) : ∀ (S : St) (x0 : Option Nat) (x1 : Int32) (x2 : Int32) (x3 : Int32) (x4 : Int32) (x5 : Int32), n_X3_answer_b189 k45 S x0 x1 x2 x3 x4 x5 = some (r, S1) → G K 10 S 189 [(0, vR x0), (1, vI x1), (2, vI x2), (3, vI x3), (4, vI x4), (5, vI x5)] [] := by
  intro S x0 x1 x2 x3 x4 x5 hd
  unfold n_X3_answer_b189 at hd
  refine g_iinc (v := x5 + 1) (L' := [(5, vI (x5 + 1)), (0, vR x0), (1, vI x1), (2, vI x2), (3, vI x3), (4, vI x4)]) C dX3_answer_189 5 rfl rfl (by decide) rfl ?_
  refine g_goto (tgt := 45) C dX3_answer_192 (by decide) ?_
  refine g_sub [1, 2, 3, 4, 5, 0] rfl ?_
  exact h45 _ _ _ _ _ _ _ hd
theorem w_X3_answer_b83 {K : KT} {r : Int32} {S1 : St} (C : GC K RX3 cX3_answer 10 5 []) (E : EH (kΓ K) (kHI K) (kl K)) (Q : GQ K (some (Jvm.ClassFile.FieldType.int)) (.inl (some (vI r))) S1) {k45 : St → Option Nat → Int32 → Int32 → Int32 → Int32 → Int32 → Option (Int32 × St)} (h45 : ∀ (S : St) (x0 : Option Nat) (x1 : Int32) (x2 : Int32) (x3 : Int32) (x4 : Int32) (x5 : Int32), k45 S x0 x1 x2 x3 x4 x5 = some (r, S1) → G K 10 S 45 [(0, vR x0), (1, vI x1), (2, vI x2), (3, vI x3), (4, vI x4), (5, vI x5)] []) : ∀ (n : Nat) (S : St) (x0 : Option Nat) (x1 : Int32) (x2 : Int32) (x3 : Int32) (x4 : Int32) (x5 : Int32) (x6 : Int32) (x7 : Int32) (x8 : Int32), n_X3_answer_b83 k45 n S x0 x1 x2 x3 x4 x5 x6 x7 x8 = some (r, S1) → G K 10 S 83 [(0, vR x0), (1, vI x1), (2, vI x2), (3, vI x3), (4, vI x4), (5, vI x5), (6, vI x6), (7, vI x7), (8, vI x8)] [] := by
  intro n
  induction n with
  | zero => intro S x0 x1 x2 x3 x4 x5 x6 x7 x8 hd; cases hd
  | succ n ih =>
    intro S x0 x1 x2 x3 x4 x5 x6 x7 x8 hd
    unfold n_X3_answer_b83 at hd
    refine g_iload C dX3_answer_83 8 rfl ?_
    refine g_aload_n C dX3_answer_85 rfl 0 rfl ?_
    obtain ⟨v1, hv1, hd⟩ := Option.bind_eq_some_iff.mp hd
    refine g_fld C gk_X3 (k := 2) (by decide) q1968 (Or.inl rfl) dX3_answer_86 (gI_v hv1) ?_
    refine g_icmp_ge (tgt := 173) C dX3_answer_89 (by decide) hd (fun hd => ?_) (fun hd => ?_)
    · refine g_iload C dX3_answer_173 6 rfl ?_
      refine g_iload C dX3_answer_175 4 rfl ?_
      refine g_icmp_ne (tgt := 189) C dX3_answer_177 (by decide) hd (fun hd => ?_) (fun hd => ?_)
      · refine g_sub [0, 1, 2, 3, 4, 5] rfl ?_
        exact w_X3_answer_b189 C E Q h45 _ _ _ _ _ _ _ hd
      · refine g_bipush (v := 100) C dX3_answer_180 (by decide) ?_
        refine g_iload C dX3_answer_182 7 rfl ?_
        refine g_imul C dX3_answer_184 ?_
        refine g_iload C dX3_answer_185 5 rfl ?_
        refine g_iadd C dX3_answer_187 ?_
        exact g_iret C Q hd dX3_answer_188
    · refine g_iload C dX3_answer_92 8 rfl ?_
      refine g_iload C dX3_answer_94 5 rfl ?_
      refine g_icmp_eq (tgt := 116) C dX3_answer_96 (by decide) hd (fun hd => ?_) (fun hd => ?_)
      · refine g_sub [0, 1, 2, 3, 4, 5, 6, 7, 8] rfl ?_
        exact w_X3_answer_b116 C E Q h45 ih _ _ _ _ _ _ _ _ _ _ hd
      · refine g_aload_n C dX3_answer_99 rfl 0 rfl ?_
        refine g_iload C dX3_answer_100 8 rfl ?_
        refine g_iload_n C dX3_answer_102 rfl 1 rfl ?_
        refine g_iload_n C dX3_answer_103 rfl 2 rfl ?_
        refine g_iload_n C dX3_answer_104 rfl 3 rfl ?_
        refine g_iconst (v := (-1)) C dX3_answer_105 (by decide) ?_
        obtain ⟨hg, hd⟩ := gd_some hd
        obtain ⟨v3, S2, hc, hd⟩ := bn_some hd
        refine g_cV_v (n := 5) C (gk_X3).1 q2376 q2378 qs90 q108 q2379 (by decide +kernel) (by decide) (by decide) dX3_answer_106 (As := [vI x8, vI x1, vI x2, vI x3, vI (-1 : Int32)]) (rest := []) rfl rfl (Nat.le_of_ble_eq_true rfl) hg (m_X3_isAnswer E hc) ?_
        refine g_if_eq (tgt := 116) C dX3_answer_109 (by decide) hd (fun hd => ?_) (fun hd => ?_)
        · refine g_sub [0, 1, 2, 3, 4, 5, 6, 7, 8] rfl ?_
          exact w_X3_answer_b116 C E Q h45 ih _ _ _ _ _ _ _ _ _ _ hd
        · refine g_iconst (v := 1) C dX3_answer_112 (by decide) ?_
          refine g_goto (tgt := 117) C dX3_answer_113 (by decide) ?_
          refine g_sub [0, 1, 2, 3, 4, 5, 6, 7, 8] rfl ?_
          exact w_X3_answer_b117 C E Q h45 ih _ _ _ _ _ _ _ _ _ _ _ hd
theorem w_X3_answer_b45 {K : KT} {r : Int32} {S1 : St} (C : GC K RX3 cX3_answer 10 5 []) (E : EH (kΓ K) (kHI K) (kl K)) (Q : GQ K (some (Jvm.ClassFile.FieldType.int)) (.inl (some (vI r))) S1) : ∀ (n : Nat) (S : St) (x0 : Option Nat) (x1 : Int32) (x2 : Int32) (x3 : Int32) (x4 : Int32) (x5 : Int32), n_X3_answer_b45 n S x0 x1 x2 x3 x4 x5 = some (r, S1) → G K 10 S 45 [(0, vR x0), (1, vI x1), (2, vI x2), (3, vI x3), (4, vI x4), (5, vI x5)] [] := by
  intro n
  induction n with
  | zero => intro S x0 x1 x2 x3 x4 x5 hd; cases hd
  | succ n ih =>
    intro S x0 x1 x2 x3 x4 x5 hd
    unfold n_X3_answer_b45 at hd
    refine g_iload C dX3_answer_45 5 rfl ?_
    refine g_aload_n C dX3_answer_47 rfl 0 rfl ?_
    obtain ⟨v1, hv1, hd⟩ := Option.bind_eq_some_iff.mp hd
    refine g_fld C gk_X3 (k := 2) (by decide) q1968 (Or.inl rfl) dX3_answer_48 (gI_v hv1) ?_
    refine g_icmp_ge (tgt := 195) C dX3_answer_51 (by decide) hd (fun hd => ?_) (fun hd => ?_)
    · refine g_aload_n C dX3_answer_195 rfl 0 rfl ?_
      refine g_iconst (v := 1) C dX3_answer_196 (by decide) ?_
      obtain ⟨hg, hd⟩ := gd_some hd
      obtain ⟨v3, S2, hc, hd⟩ := bn_some hd
      refine g_cV_v (n := 1) C (gk_X3).1 q2127 q2129 qs53 q108 q2130 (by decide +kernel) (by decide) (by decide) dX3_answer_197 (As := [vI (1 : Int32)]) (rest := []) rfl rfl (Nat.le_of_ble_eq_true rfl) hg (m_X3_fails E hc) ?_
      exact g_iret C Q hd dX3_answer_200
    · refine g_aload_n C dX3_answer_54 rfl 0 rfl ?_
      refine g_iload C dX3_answer_55 5 rfl ?_
      refine g_iload_n C dX3_answer_57 rfl 1 rfl ?_
      refine g_iload_n C dX3_answer_58 rfl 2 rfl ?_
      refine g_iload_n C dX3_answer_59 rfl 3 rfl ?_
      refine g_iconst (v := (-1)) C dX3_answer_60 (by decide) ?_
      obtain ⟨hg, hd⟩ := gd_some hd
      obtain ⟨v5, S4, hc, hd⟩ := bn_some hd
      refine g_cV_v (n := 5) C (gk_X3).1 q2376 q2378 qs90 q108 q2379 (by decide +kernel) (by decide) (by decide) dX3_answer_61 (As := [vI x5, vI x1, vI x2, vI x3, vI (-1 : Int32)]) (rest := []) rfl rfl (Nat.le_of_ble_eq_true rfl) hg (m_X3_isAnswer E hc) ?_
      refine g_if_eq (tgt := 189) C dX3_answer_64 (by decide) hd (fun hd => ?_) (fun hd => ?_)
      · refine g_sub [0, 1, 2, 3, 4, 5] rfl ?_
        exact w_X3_answer_b189 C E Q ih _ _ _ _ _ _ _ hd
      · refine g_iconst (v := 0) C dX3_answer_67 (by decide) ?_
        refine g_istore (L' := [(6, vI (0 : Int32)), (0, vR x0), (1, vI x1), (2, vI x2), (3, vI x3), (4, vI x4), (5, vI x5)]) C dX3_answer_68 (by decide) rfl ?_
        refine g_aload_n C dX3_answer_70 rfl 1 rfl ?_
        refine g_iload C dX3_answer_71 6 rfl ?_
        refine g_iload_n C dX3_answer_73 rfl 3 rfl ?_
        refine g_iload_n C dX3_answer_74 rfl 4 rfl ?_
        obtain ⟨hg, hd⟩ := gd_some hd
        obtain ⟨v7, S6, hc, hd⟩ := bn_some hd
        refine g_cV_v (n := 3) C (gk_X3).1 q2396 q2398 qs93 q108 q2399 (by decide +kernel) (by decide) (by decide) dX3_answer_75 (As := [vI x5, vI x2, vI x3]) (rest := []) rfl rfl (Nat.le_of_ble_eq_true rfl) hg (m_X3_score E hc) ?_
        refine g_istore (L' := [(7, vI v7), (6, vI (0 : Int32)), (0, vR x0), (1, vI x1), (2, vI x2), (3, vI x3), (4, vI x4), (5, vI x5)]) C dX3_answer_78 (by decide) rfl ?_
        refine g_iconst (v := 0) C dX3_answer_80 (by decide) ?_
        refine g_istore (L' := [(8, vI (0 : Int32)), (7, vI v7), (6, vI (0 : Int32)), (0, vR x0), (1, vI x1), (2, vI x2), (3, vI x3), (4, vI x4), (5, vI x5)]) C dX3_answer_81 (by decide) rfl ?_
        refine g_sub [3, 4, 5, 6, 7, 8, 2, 1, 0] rfl ?_
        exact w_X3_answer_b83 C E Q ih FU _ _ _ _ _ _ _ _ _ _ hd
theorem w_X3_answer_b30 {K : KT} {r : Int32} {S1 : St} (C : GC K RX3 cX3_answer 10 5 []) (E : EH (kΓ K) (kHI K) (kl K)) (Q : GQ K (some (Jvm.ClassFile.FieldType.int)) (.inl (some (vI r))) S1) : ∀ (S : St) (x0 : Option Nat) (x1 : Int32) (x2 : Int32) (x3 : Int32) (x4 : Int32) (y0 : Int32) (y1 : Option Nat), n_X3_answer_b30 S x0 x1 x2 x3 x4 y0 y1 = some (r, S1) → G K 10 S 30 [(0, vR x0), (1, vI x1), (2, vI x2), (3, vI x3), (4, vI x4)] [vI y0, vR y1] := by
  intro S x0 x1 x2 x3 x4 y0 y1 hd
  unfold n_X3_answer_b30 at hd
  obtain ⟨S1, hS1, hd⟩ := Option.bind_eq_some_iff.mp hd
  refine g_put C gk_X3 (k := 0) (by decide) q1966 (Or.inl rfl) rfl dX3_answer_30 (gfit_ok (pI_v hS1).1).1 (gfit_ok (pI_v hS1).1).2 (pI_v hS1).2 ?_
  refine g_aload_n C dX3_answer_33 rfl 0 rfl ?_
  obtain ⟨v2, hv2, hd⟩ := Option.bind_eq_some_iff.mp hd
  refine g_fld C gk_X3 (k := 0) (by decide) q1966 (Or.inl rfl) dX3_answer_34 (gI_v hv2) ?_
  refine g_if_le (tgt := 42) C dX3_answer_37 (by decide) hd (fun hd => ?_) (fun hd => ?_)
  · refine g_iconst (v := 0) C dX3_answer_42 (by decide) ?_
    refine g_istore (L' := [(5, vI (0 : Int32)), (0, vR x0), (1, vI x1), (2, vI x2), (3, vI x3), (4, vI x4)]) C dX3_answer_43 (by decide) rfl ?_
    refine g_sub [1, 2, 3, 4, 5, 0] rfl ?_
    exact w_X3_answer_b45 C E Q FU _ _ _ _ _ _ _ hd
  · refine g_iconst (v := 0) C dX3_answer_40 (by decide) ?_
    exact g_iret C Q hd dX3_answer_41
theorem w_X3_answer_b0m {K : KT} {r : Int32} {S1 : St} (C : GC K RX3 cX3_answer 10 5 []) (E : EH (kΓ K) (kHI K) (kl K)) (Q : GQ K (some (Jvm.ClassFile.FieldType.int)) (.inl (some (vI r))) S1) : ∀ (S : St) (x0 : Option Nat) (x1 : Int32) (x2 : Int32) (x3 : Int32) (x4 : Int32), n_X3_answer S x0 x1 x2 x3 x4 = some (r, S1) → G K 10 S 0 [(0, vR x0), (1, vI x1), (2, vI x2), (3, vI x3), (4, vI x4)] [] := by
  intro S x0 x1 x2 x3 x4 hd
  unfold n_X3_answer at hd
  refine g_iload_n C dX3_answer_0 rfl 1 rfl ?_
  refine g_iconst (v := 0) C dX3_answer_1 (by decide) ?_
  refine g_iconst (v := 3) C dX3_answer_2 (by decide) ?_
  obtain ⟨v2, S1, hc, hd⟩ := bn_some hd
  refine g_cS_v (n := 3) C q2124 q2125 q108 q2126 (by decide +kernel) (by decide) (by decide) dX3_answer_3 (As := [vI x1, vI (0 : Int32), vI (3 : Int32)]) (rest := []) rfl rfl (Nat.le_of_ble_eq_true rfl) (m_X3_in E hc) ?_
  refine g_if_ne (tgt := 15) C dX3_answer_6 (by decide) hd (fun hd => ?_) (fun hd => ?_)
  · refine g_aload_n C dX3_answer_15 rfl 0 rfl ?_
    refine g_aload_n C dX3_answer_16 rfl 0 rfl ?_
    refine g_iload_n C dX3_answer_17 rfl 2 rfl ?_
    refine g_iload_n C dX3_answer_18 rfl 3 rfl ?_
    obtain ⟨hg, hd⟩ := gd_some hd
    obtain ⟨v4, S3, hc, hd⟩ := bn_some hd
    refine g_cV_v (n := 2) C (gk_X3).1 q2372 q2374 qs89 q108 q2375 (by decide +kernel) (by decide) (by decide) dX3_answer_19 (As := [vI x2, vI x3]) (rest := [vR x0]) rfl rfl (Nat.le_of_ble_eq_true rfl) hg (m_X3_areWords E hc) ?_
    refine g_if_eq (tgt := 29) C dX3_answer_22 (by decide) hd (fun hd => ?_) (fun hd => ?_)
    · refine g_iconst (v := 2) C dX3_answer_29 (by decide) ?_
      refine g_sub [0, 1, 2, 3, 4] rfl ?_
      exact w_X3_answer_b30 C E Q _ _ _ _ _ _ _ _ hd
    · refine g_iconst (v := 0) C dX3_answer_25 (by decide) ?_
      refine g_goto (tgt := 30) C dX3_answer_26 (by decide) ?_
      refine g_sub [0, 1, 2, 3, 4] rfl ?_
      exact w_X3_answer_b30 C E Q _ _ _ _ _ _ _ _ hd
  · refine g_aload_n C dX3_answer_9 rfl 0 rfl ?_
    refine g_iconst (v := 1) C dX3_answer_10 (by decide) ?_
    obtain ⟨hg, hd⟩ := gd_some hd
    obtain ⟨v6, S5, hc, hd⟩ := bn_some hd
    refine g_cV_v (n := 1) C (gk_X3).1 q2127 q2129 qs53 q108 q2130 (by decide +kernel) (by decide) (by decide) dX3_answer_11 (As := [vI (1 : Int32)]) (rest := []) rfl rfl (Nat.le_of_ble_eq_true rfl) hg (m_X3_fails E hc) ?_
    exact g_iret C Q hd dX3_answer_14
theorem m_X3_answer {Γ : GG} {HI : St → Heap → Prop} {l : Launch} (E : EH Γ HI l) {S : St} {a0 : Option Nat} {a1 : Int32} {a2 : Int32} {a3 : Int32} {a4 : Int32} {r : Int32} {S1 : St} (h : n_X3_answer S a0 a1 a2 a3 a4 = some (r, S1)) : MS Γ HI l yX3_answer cX3_answer 10 (some (Jvm.ClassFile.FieldType.int)) 5 S [vR a0, vI a1, vI a2, vI a3, vI a4] (.inl (some (vI r))) S1 := by
  refine MS_of E.ntr E.hx (by decide +kernel) rfl (Nat.le_of_ble_eq_true rfl) fun K e1 e2 e3 e4 hnm C Q => ?_
  subst e1; subst e2; subst e3
  exact w_X3_answer_b0m C E Q S a0 a1 a2 a3 a4 h

def n_X3_isCloser_b54 (S : St) (x0 : Int32) (x2 : Int32) (x4 : Int32) (x5 : Int32) (x6 : Int32) (y0 : Int32) : Option (Int32 × St) :=
  if x4 = x5 then
    if x6 = y0 then
      if x2 ≤ x0 then
        rtI id (Jvm.ClassFile.FieldType.boolean) (0 : Int32) S
      else
        rtI id (Jvm.ClassFile.FieldType.boolean) (1 : Int32) S
    else
      if y0 ≤ x6 then
        rtI id (Jvm.ClassFile.FieldType.boolean) (0 : Int32) S
      else
        rtI id (Jvm.ClassFile.FieldType.boolean) (1 : Int32) S
  else
    if x5 ≤ x4 then
      rtI id (Jvm.ClassFile.FieldType.boolean) (0 : Int32) S
    else
      rtI id (Jvm.ClassFile.FieldType.boolean) (1 : Int32) S
def n_X3_isCloser_b42 (S : St) (x0 : Int32) (x2 : Int32) (x3 : Int32) (x4 : Int32) (x5 : Int32) (y0 : Int32) : Option (Int32 × St) :=
  if x3 ≤ x2 then
    n_X3_isCloser_b54 S x0 x2 x4 x5 y0 x3
  else
    n_X3_isCloser_b54 S x0 x2 x4 x5 y0 x2
def n_X3_isCloser_b30 (S : St) (x0 : Int32) (x1 : Int32) (x2 : Int32) (x3 : Int32) (x4 : Int32) (y0 : Int32) : Option (Int32 × St) :=
  if x1 ≤ x0 then
    n_X3_isCloser_b42 S x0 x2 x3 x4 y0 x1
  else
    n_X3_isCloser_b42 S x0 x2 x3 x4 y0 x0
def n_X3_isCloser_b14 (S : St) (x0 : Int32) (x1 : Int32) (x2 : Int32) (x3 : Int32) (y0 : Int32) : Option (Int32 × St) :=
  if x3 ≤ x2 then
    n_X3_isCloser_b30 S x0 x1 x2 x3 y0 (x2 - x3)
  else
    n_X3_isCloser_b30 S x0 x1 x2 x3 y0 (x3 - x2)
def n_X3_isCloser (S : St) (x0 : Int32) (x1 : Int32) (x2 : Int32) (x3 : Int32) : Option (Int32 × St) :=
  if x1 ≤ x0 then
    n_X3_isCloser_b14 S x0 x1 x2 x3 (x0 - x1)
  else
    n_X3_isCloser_b14 S x0 x1 x2 x3 (x1 - x0)
theorem w_X3_isCloser_b54 {K : KT} {r : Int32} {S1 : St} (C : GC K RX3 cX3_isCloser 8 2 []) (E : EH (kΓ K) (kHI K) (kl K)) (Q : GQ K (some (Jvm.ClassFile.FieldType.boolean)) (.inl (some (vI r))) S1) : ∀ (S : St) (x0 : Int32) (x2 : Int32) (x4 : Int32) (x5 : Int32) (x6 : Int32) (y0 : Int32), n_X3_isCloser_b54 S x0 x2 x4 x5 x6 y0 = some (r, S1) → G K 8 S 54 [(0, vI x0), (2, vI x2), (4, vI x4), (5, vI x5), (6, vI x6)] [vI y0] := by
  intro S x0 x2 x4 x5 x6 y0 hd
  unfold n_X3_isCloser_b54 at hd
  refine g_istore (L' := [(7, vI y0), (0, vI x0), (2, vI x2), (4, vI x4), (5, vI x5), (6, vI x6)]) C dX3_isCloser_54 (by decide) rfl ?_
  refine g_iload C dX3_isCloser_56 3 rfl ?_
  refine g_iload C dX3_isCloser_58 4 rfl ?_
  refine g_icmp_eq (tgt := 78) C dX3_isCloser_60 (by decide) hd (fun hd => ?_) (fun hd => ?_)
  · refine g_iload C dX3_isCloser_78 5 rfl ?_
    refine g_iload C dX3_isCloser_80 0 rfl ?_
    refine g_icmp_eq (tgt := 100) C dX3_isCloser_82 (by decide) hd (fun hd => ?_) (fun hd => ?_)
    · refine g_iload_n C dX3_isCloser_100 rfl 1 rfl ?_
      refine g_iload_n C dX3_isCloser_101 rfl 2 rfl ?_
      refine g_icmp_ge (tgt := 109) C dX3_isCloser_102 (by decide) hd (fun hd => ?_) (fun hd => ?_)
      · refine g_iconst (v := 0) C dX3_isCloser_109 (by decide) ?_
        exact g_iret C Q hd dX3_isCloser_110
      · refine g_iconst (v := 1) C dX3_isCloser_105 (by decide) ?_
        refine g_goto (tgt := 110) C dX3_isCloser_106 (by decide) ?_
        exact g_iret C Q hd dX3_isCloser_110
    · refine g_iload C dX3_isCloser_85 5 rfl ?_
      refine g_iload C dX3_isCloser_87 0 rfl ?_
      refine g_icmp_ge (tgt := 96) C dX3_isCloser_89 (by decide) hd (fun hd => ?_) (fun hd => ?_)
      · refine g_iconst (v := 0) C dX3_isCloser_96 (by decide) ?_
        refine g_goto (tgt := 110) C dX3_isCloser_97 (by decide) ?_
        exact g_iret C Q hd dX3_isCloser_110
      · refine g_iconst (v := 1) C dX3_isCloser_92 (by decide) ?_
        refine g_goto (tgt := 110) C dX3_isCloser_93 (by decide) ?_
        exact g_iret C Q hd dX3_isCloser_110
  · refine g_iload C dX3_isCloser_63 3 rfl ?_
    refine g_iload C dX3_isCloser_65 4 rfl ?_
    refine g_icmp_ge (tgt := 74) C dX3_isCloser_67 (by decide) hd (fun hd => ?_) (fun hd => ?_)
    · refine g_iconst (v := 0) C dX3_isCloser_74 (by decide) ?_
      refine g_goto (tgt := 110) C dX3_isCloser_75 (by decide) ?_
      exact g_iret C Q hd dX3_isCloser_110
    · refine g_iconst (v := 1) C dX3_isCloser_70 (by decide) ?_
      refine g_goto (tgt := 110) C dX3_isCloser_71 (by decide) ?_
      exact g_iret C Q hd dX3_isCloser_110
theorem w_X3_isCloser_b42 {K : KT} {r : Int32} {S1 : St} (C : GC K RX3 cX3_isCloser 8 2 []) (E : EH (kΓ K) (kHI K) (kl K)) (Q : GQ K (some (Jvm.ClassFile.FieldType.boolean)) (.inl (some (vI r))) S1) : ∀ (S : St) (x0 : Int32) (x2 : Int32) (x3 : Int32) (x4 : Int32) (x5 : Int32) (y0 : Int32), n_X3_isCloser_b42 S x0 x2 x3 x4 x5 y0 = some (r, S1) → G K 8 S 42 [(0, vI x0), (2, vI x2), (3, vI x3), (4, vI x4), (5, vI x5)] [vI y0] := by
  intro S x0 x2 x3 x4 x5 y0 hd
  unfold n_X3_isCloser_b42 at hd
  refine g_istore (L' := [(6, vI y0), (0, vI x0), (2, vI x2), (3, vI x3), (4, vI x4), (5, vI x5)]) C dX3_isCloser_42 (by decide) rfl ?_
  refine g_iload_n C dX3_isCloser_44 rfl 2 rfl ?_
  refine g_iload_n C dX3_isCloser_45 rfl 3 rfl ?_
  refine g_icmp_ge (tgt := 53) C dX3_isCloser_46 (by decide) hd (fun hd => ?_) (fun hd => ?_)
  · refine g_iload_n C dX3_isCloser_53 rfl 3 rfl ?_
    refine g_sub [1, 2, 4, 5, 0] rfl ?_
    exact w_X3_isCloser_b54 C E Q _ _ _ _ _ _ _ hd
  · refine g_iload_n C dX3_isCloser_49 rfl 2 rfl ?_
    refine g_goto (tgt := 54) C dX3_isCloser_50 (by decide) ?_
    refine g_sub [1, 2, 4, 5, 0] rfl ?_
    exact w_X3_isCloser_b54 C E Q _ _ _ _ _ _ _ hd
theorem w_X3_isCloser_b30 {K : KT} {r : Int32} {S1 : St} (C : GC K RX3 cX3_isCloser 8 2 []) (E : EH (kΓ K) (kHI K) (kl K)) (Q : GQ K (some (Jvm.ClassFile.FieldType.boolean)) (.inl (some (vI r))) S1) : ∀ (S : St) (x0 : Int32) (x1 : Int32) (x2 : Int32) (x3 : Int32) (x4 : Int32) (y0 : Int32), n_X3_isCloser_b30 S x0 x1 x2 x3 x4 y0 = some (r, S1) → G K 8 S 30 [(0, vI x0), (1, vI x1), (2, vI x2), (3, vI x3), (4, vI x4)] [vI y0] := by
  intro S x0 x1 x2 x3 x4 y0 hd
  unfold n_X3_isCloser_b30 at hd
  refine g_istore (L' := [(5, vI y0), (0, vI x0), (1, vI x1), (2, vI x2), (3, vI x3), (4, vI x4)]) C dX3_isCloser_30 (by decide) rfl ?_
  refine g_iload_n C dX3_isCloser_32 rfl 1 rfl ?_
  refine g_iload_n C dX3_isCloser_33 rfl 2 rfl ?_
  refine g_icmp_ge (tgt := 41) C dX3_isCloser_34 (by decide) hd (fun hd => ?_) (fun hd => ?_)
  · refine g_iload_n C dX3_isCloser_41 rfl 2 rfl ?_
    refine g_sub [1, 3, 4, 5, 0] rfl ?_
    exact w_X3_isCloser_b42 C E Q _ _ _ _ _ _ _ hd
  · refine g_iload_n C dX3_isCloser_37 rfl 1 rfl ?_
    refine g_goto (tgt := 42) C dX3_isCloser_38 (by decide) ?_
    refine g_sub [1, 3, 4, 5, 0] rfl ?_
    exact w_X3_isCloser_b42 C E Q _ _ _ _ _ _ _ hd
theorem w_X3_isCloser_b14 {K : KT} {r : Int32} {S1 : St} (C : GC K RX3 cX3_isCloser 8 2 []) (E : EH (kΓ K) (kHI K) (kl K)) (Q : GQ K (some (Jvm.ClassFile.FieldType.boolean)) (.inl (some (vI r))) S1) : ∀ (S : St) (x0 : Int32) (x1 : Int32) (x2 : Int32) (x3 : Int32) (y0 : Int32), n_X3_isCloser_b14 S x0 x1 x2 x3 y0 = some (r, S1) → G K 8 S 14 [(0, vI x0), (1, vI x1), (2, vI x2), (3, vI x3)] [vI y0] := by
  intro S x0 x1 x2 x3 y0 hd
  unfold n_X3_isCloser_b14 at hd
  refine g_istore (L' := [(4, vI y0), (0, vI x0), (1, vI x1), (2, vI x2), (3, vI x3)]) C dX3_isCloser_14 (by decide) rfl ?_
  refine g_iload_n C dX3_isCloser_16 rfl 3 rfl ?_
  refine g_iload_n C dX3_isCloser_17 rfl 4 rfl ?_
  refine g_icmp_ge (tgt := 27) C dX3_isCloser_18 (by decide) hd (fun hd => ?_) (fun hd => ?_)
  · refine g_iload_n C dX3_isCloser_27 rfl 3 rfl ?_
    refine g_iload_n C dX3_isCloser_28 rfl 4 rfl ?_
    refine g_isub C dX3_isCloser_29 ?_
    refine g_sub [1, 2, 3, 4, 0] rfl ?_
    exact w_X3_isCloser_b30 C E Q _ _ _ _ _ _ _ hd
  · refine g_iload_n C dX3_isCloser_21 rfl 4 rfl ?_
    refine g_iload_n C dX3_isCloser_22 rfl 3 rfl ?_
    refine g_isub C dX3_isCloser_23 ?_
    refine g_goto (tgt := 30) C dX3_isCloser_24 (by decide) ?_
    refine g_sub [1, 2, 3, 4, 0] rfl ?_
    exact w_X3_isCloser_b30 C E Q _ _ _ _ _ _ _ hd
theorem w_X3_isCloser_b0m {K : KT} {r : Int32} {S1 : St} (C : GC K RX3 cX3_isCloser 8 2 []) (E : EH (kΓ K) (kHI K) (kl K)) (Q : GQ K (some (Jvm.ClassFile.FieldType.boolean)) (.inl (some (vI r))) S1) : ∀ (S : St) (x0 : Int32) (x1 : Int32) (x2 : Int32) (x3 : Int32), n_X3_isCloser S x0 x1 x2 x3 = some (r, S1) → G K 8 S 0 [(0, vI x0), (1, vI x1), (2, vI x2), (3, vI x3)] [] := by
  intro S x0 x1 x2 x3 hd
  unfold n_X3_isCloser at hd
  refine g_iload_n C dX3_isCloser_0 rfl 0 rfl ?_
  refine g_iload_n C dX3_isCloser_1 rfl 1 rfl ?_
  refine g_icmp_ge (tgt := 11) C dX3_isCloser_2 (by decide) hd (fun hd => ?_) (fun hd => ?_)
  · refine g_iload_n C dX3_isCloser_11 rfl 0 rfl ?_
    refine g_iload_n C dX3_isCloser_12 rfl 1 rfl ?_
    refine g_isub C dX3_isCloser_13 ?_
    refine g_sub [0, 1, 2, 3] rfl ?_
    exact w_X3_isCloser_b14 C E Q _ _ _ _ _ _ hd
  · refine g_iload_n C dX3_isCloser_5 rfl 1 rfl ?_
    refine g_iload_n C dX3_isCloser_6 rfl 0 rfl ?_
    refine g_isub C dX3_isCloser_7 ?_
    refine g_goto (tgt := 14) C dX3_isCloser_8 (by decide) ?_
    refine g_sub [0, 1, 2, 3] rfl ?_
    exact w_X3_isCloser_b14 C E Q _ _ _ _ _ _ hd
theorem m_X3_isCloser {Γ : GG} {HI : St → Heap → Prop} {l : Launch} (E : EH Γ HI l) {S : St} {a0 : Int32} {a1 : Int32} {a2 : Int32} {a3 : Int32} {r : Int32} {S1 : St} (h : n_X3_isCloser S a0 a1 a2 a3 = some (r, S1)) : MS Γ HI l yX3_isCloser cX3_isCloser 8 (some (Jvm.ClassFile.FieldType.boolean)) 2 S [vI a0, vI a1, vI a2, vI a3] (.inl (some (vI r))) S1 := by
  refine MS_of E.ntr E.hx (by decide +kernel) rfl (Nat.le_of_ble_eq_true rfl) fun K e1 e2 e3 e4 hnm C Q => ?_
  subst e1; subst e2; subst e3
  exact w_X3_isCloser_b0m C E Q S a0 a1 a2 a3 h

def n_X3_closest_b26 (S : St) (x0 : Option Nat) : Option (Int32 × St) :=
  gd (grc S x0 15) <|
  bn (n_X3_fails S x0 (1 : Int32)) fun v2 S1 =>
  rtI id (Jvm.ClassFile.FieldType.int) v2 S1
def n_X3_closest_b203 (k98 : St → Option Nat → Int32 → Int32 → Int32 → Int32 → Int32 → Int32 → Option (Int32 × St)) (k108 : St → Option Nat → Int32 → Int32 → Int32 → Int32 → Int32 → Int32 → Int32 → Option (Int32 × St)) (S : St) (x0 : Option Nat) (x2 : Int32) (x3 : Int32) (x4 : Int32) (x5 : Int32) (x6 : Int32) (x7 : Int32) (x8 : Int32) : Option (Int32 × St) :=
  k108 S x0 x2 x3 x4 x5 x6 x7 (x8 + 1)
def n_X3_closest_b193 (k98 : St → Option Nat → Int32 → Int32 → Int32 → Int32 → Int32 → Int32 → Option (Int32 × St)) (k108 : St → Option Nat → Int32 → Int32 → Int32 → Int32 → Int32 → Int32 → Int32 → Option (Int32 × St)) (S : St) (x0 : Option Nat) (x2 : Int32) (x3 : Int32) (x4 : Int32) (x6 : Int32) (x7 : Int32) (x8 : Int32) : Option (Int32 × St) :=
  n_X3_closest_b203 k98 k108 S x0 x2 x3 x4 (((100 : Int32) * x7) + x8) x6 x7 x8
def n_X3_closest_b160 (k98 : St → Option Nat → Int32 → Int32 → Int32 → Int32 → Int32 → Int32 → Option (Int32 × St)) (k108 : St → Option Nat → Int32 → Int32 → Int32 → Int32 → Int32 → Int32 → Int32 → Option (Int32 × St)) (S : St) (x0 : Option Nat) (x2 : Int32) (x3 : Int32) (x4 : Int32) (x5 : Int32) (x6 : Int32) (x7 : Int32) (x8 : Int32) (y0 : Int32) : Option (Int32 × St) :=
  if y0 = 0 then
    n_X3_closest_b203 k98 k108 S x0 x2 x3 x4 x5 x6 x7 x8
  else
    if x5 = (-1 : Int32) then
      n_X3_closest_b193 k98 k108 S x0 x2 x3 x4 x6 x7 x8
    else
      if (100 : Int32) = 0 then none else
      if (100 : Int32) = 0 then none else
      bn (n_X3_isCloser S x7 x8 (x5 / (100 : Int32)) (x5 - x5 / (100 : Int32) * (100 : Int32))) fun v2 S1 =>
      if v2 = 0 then
        n_X3_closest_b203 k98 k108 S1 x0 x2 x3 x4 x5 x6 x7 x8
      else
        n_X3_closest_b193 k98 k108 S1 x0 x2 x3 x4 x6 x7 x8
def n_X3_closest_b159 (k98 : St → Option Nat → Int32 → Int32 → Int32 → Int32 → Int32 → Int32 → Option (Int32 × St)) (k108 : St → Option Nat → Int32 → Int32 → Int32 → Int32 → Int32 → Int32 → Int32 → Option (Int32 × St)) (S : St) (x0 : Option Nat) (x2 : Int32) (x3 : Int32) (x4 : Int32) (x5 : Int32) (x6 : Int32) (x7 : Int32) (x8 : Int32) : Option (Int32 × St) :=
  n_X3_closest_b160 k98 k108 S x0 x2 x3 x4 x5 x6 x7 x8 (0 : Int32)
def n_X3_closest_b108 (k98 : St → Option Nat → Int32 → Int32 → Int32 → Int32 → Int32 → Int32 → Option (Int32 × St)) : Nat → St → Option Nat → Int32 → Int32 → Int32 → Int32 → Int32 → Int32 → Int32 → Option (Int32 × St)
  | 0 => fun _ _ _ _ _ _ _ _ _ => none
  | n + 1 => fun S x0 x2 x3 x4 x5 x6 x7 x8 =>
    if x6 ≤ x8 then
      k98 S x0 x2 x3 x4 x5 x6 (x7 + 1)
    else
      if x7 = x8 then
        n_X3_closest_b159 k98 (n_X3_closest_b108 k98 n) S x0 x2 x3 x4 x5 x6 x7 x8
      else
        (gR S x0 15 27).bind fun v1 =>
        (aI S v1 0 (((20 : Int32) * x2) + x7)).bind fun v2 =>
        if v2 = x3 then
          (gR S x0 15 27).bind fun v3 =>
          (aI S v3 0 (((20 : Int32) * x2) + x8)).bind fun v4 =>
          if v4 = x4 then
            n_X3_closest_b160 k98 (n_X3_closest_b108 k98 n) S x0 x2 x3 x4 x5 x6 x7 x8 (1 : Int32)
          else
            n_X3_closest_b159 k98 (n_X3_closest_b108 k98 n) S x0 x2 x3 x4 x5 x6 x7 x8
        else
          n_X3_closest_b159 k98 (n_X3_closest_b108 k98 n) S x0 x2 x3 x4 x5 x6 x7 x8
def n_X3_closest_b98 : Nat → St → Option Nat → Int32 → Int32 → Int32 → Int32 → Int32 → Int32 → Option (Int32 × St)
  | 0 => fun _ _ _ _ _ _ _ _ => none
  | n + 1 => fun S x0 x2 x3 x4 x5 x6 x7 =>
    if x6 ≤ x7 then
      rtI id (Jvm.ClassFile.FieldType.int) x5 S
    else
      n_X3_closest_b108 (n_X3_closest_b98 n) FU S x0 x2 x3 x4 x5 x6 x7 (0 : Int32)
def n_X3_closest_b93 (S : St) (x0 : Option Nat) (x2 : Int32) (x3 : Int32) (x4 : Int32) (x5 : Int32) (y0 : Int32) : Option (Int32 × St) :=
  n_X3_closest_b98 FU S x0 x2 x3 x4 x5 y0 (0 : Int32)
def n_X3_closest_b59 (S : St) (x0 : Option Nat) (x2 : Int32) (x3 : Int32) (x4 : Int32) (y0 : Int32) (y1 : Option Nat) : Option (Int32 × St) :=
  (pI .int S y1 15 0 y0).bind fun S1 =>
  (gI S1 x0 15 0).bind fun v2 =>
  if v2 ≤ 0 then
    (gR S1 x0 15 22).bind fun v3 =>
    (aI S1 v3 1 x2).bind fun v4 =>
    if v4 = 0 then
      n_X3_closest_b93 S1 x0 x2 x3 x4 (-1 : Int32) (0 : Int32)
    else
      (gR S1 x0 15 26).bind fun v5 =>
      (aI S1 v5 0 x2).bind fun v6 =>
      n_X3_closest_b93 S1 x0 x2 x3 x4 (-1 : Int32) v6
  else
    rtI id (Jvm.ClassFile.FieldType.int) (0 : Int32) S1
def n_X3_closest_b58 (S : St) (x0 : Option Nat) (x2 : Int32) (x3 : Int32) (x4 : Int32) (y0 : Option Nat) : Option (Int32 × St) :=
  n_X3_closest_b59 S x0 x2 x3 x4 (2 : Int32) y0
def n_X3_closest (S : St) (x0 : Option Nat) (x1 : Int32) (x2 : Int32) (x3 : Int32) (x4 : Int32) : Option (Int32 × St) :=
  bn (n_X3_in S x1 (0 : Int32) (3 : Int32)) fun v2 S1 =>
  if v2 = 0 then
    n_X3_closest_b26 S1 x0
  else
    gd (grc S1 x0 15) <|
    bn (n_X3_isFileAt S1 x0 x2) fun v4 S3 =>
    if v4 = 0 then
      n_X3_closest_b26 S3 x0
    else
      gd (grc S3 x0 15) <|
      bn (n_X3_mayReadAt S3 x0 x1 x2) fun v6 S5 =>
      if v6 = 0 then
        n_X3_closest_b26 S5 x0
      else
        bn (n_X3_in S5 x3 (0 : Int32) (99 : Int32)) fun v8 S7 =>
        if v8 = 0 then
          n_X3_closest_b58 S7 x0 x2 x3 x4 x0
        else
          bn (n_X3_in S7 x4 (0 : Int32) (99 : Int32)) fun v10 S9 =>
          if v10 = 0 then
            n_X3_closest_b58 S9 x0 x2 x3 x4 x0
          else
            n_X3_closest_b59 S9 x0 x2 x3 x4 (0 : Int32) x0
theorem w_X3_closest_b26 {K : KT} {r : Int32} {S1 : St} (C : GC K RX3 cX3_closest 10 5 []) (E : EH (kΓ K) (kHI K) (kl K)) (Q : GQ K (some (Jvm.ClassFile.FieldType.int)) (.inl (some (vI r))) S1) : ∀ (S : St) (x0 : Option Nat), n_X3_closest_b26 S x0 = some (r, S1) → G K 10 S 26 [(0, vR x0)] [] := by
  intro S x0 hd
  unfold n_X3_closest_b26 at hd
  refine g_aload_n C dX3_closest_26 rfl 0 rfl ?_
  refine g_iconst (v := 1) C dX3_closest_27 (by decide) ?_
  obtain ⟨hg, hd⟩ := gd_some hd
  obtain ⟨v2, S1, hc, hd⟩ := bn_some hd
  refine g_cV_v (n := 1) C (gk_X3).1 q2127 q2129 qs53 q108 q2130 (by decide +kernel) (by decide) (by decide) dX3_closest_28 (As := [vI (1 : Int32)]) (rest := []) rfl rfl (Nat.le_of_ble_eq_true rfl) hg (m_X3_fails E hc) ?_
  exact g_iret C Q hd dX3_closest_31
theorem w_X3_closest_b203 {K : KT} {r : Int32} {S1 : St} (C : GC K RX3 cX3_closest 10 5 []) (E : EH (kΓ K) (kHI K) (kl K)) (Q : GQ K (some (Jvm.ClassFile.FieldType.int)) (.inl (some (vI r))) S1) {k98 : St → Option Nat → Int32 → Int32 → Int32 → Int32 → Int32 → Int32 → Option (Int32 × St)} (h98 : ∀ (S : St) (x0 : Option Nat) (x2 : Int32) (x3 : Int32) (x4 : Int32) (x5 : Int32) (x6 : Int32) (x7 : Int32), k98 S x0 x2 x3 x4 x5 x6 x7 = some (r, S1) → G K 10 S 98 [(0, vR x0), (2, vI x2), (3, vI x3), (4, vI x4), (5, vI x5), (6, vI x6), (7, vI x7)] []) {k108 : St → Option Nat → Int32 → Int32 → Int32 → Int32 → Int32 → Int32 → Int32 → Option (Int32 × St)} (h108 : ∀ (S : St) (x0 : Option Nat) (x2 : Int32) (x3 : Int32) (x4 : Int32) (x5 : Int32) (x6 : Int32) (x7 : Int32) (x8 : Int32), k108 S x0 x2 x3 x4 x5 x6 x7 x8 = some (r, S1) → G K 10 S 108 [(0, vR x0), (2, vI x2), (3, vI x3), (4, vI x4), (5, vI x5), (6, vI x6), (7, vI x7), (8, vI x8)] []) : ∀ (S : St) (x0 : Option Nat) (x2 : Int32) (x3 : Int32) (x4 : Int32) (x5 : Int32) (x6 : Int32) (x7 : Int32) (x8 : Int32), n_X3_closest_b203 k98 k108 S x0 x2 x3 x4 x5 x6 x7 x8 = some (r, S1) → G K 10 S 203 [(0, vR x0), (2, vI x2), (3, vI x3), (4, vI x4), (5, vI x5), (6, vI x6), (7, vI x7), (8, vI x8)] [] := by
  intro S x0 x2 x3 x4 x5 x6 x7 x8 hd
  unfold n_X3_closest_b203 at hd
  refine g_iinc (v := x8 + 1) (L' := [(8, vI (x8 + 1)), (0, vR x0), (2, vI x2), (3, vI x3), (4, vI x4), (5, vI x5), (6, vI x6), (7, vI x7)]) C dX3_closest_203 7 rfl rfl (by decide) rfl ?_
  refine g_goto (tgt := 108) C dX3_closest_206 (by decide) ?_
  refine g_sub [1, 2, 3, 4, 5, 6, 7, 0] rfl ?_
  exact h108 _ _ _ _ _ _ _ _ _ hd
theorem w_X3_closest_b193 {K : KT} {r : Int32} {S1 : St} (C : GC K RX3 cX3_closest 10 5 []) (E : EH (kΓ K) (kHI K) (kl K)) (Q : GQ K (some (Jvm.ClassFile.FieldType.int)) (.inl (some (vI r))) S1) {k98 : St → Option Nat → Int32 → Int32 → Int32 → Int32 → Int32 → Int32 → Option (Int32 × St)} (h98 : ∀ (S : St) (x0 : Option Nat) (x2 : Int32) (x3 : Int32) (x4 : Int32) (x5 : Int32) (x6 : Int32) (x7 : Int32), k98 S x0 x2 x3 x4 x5 x6 x7 = some (r, S1) → G K 10 S 98 [(0, vR x0), (2, vI x2), (3, vI x3), (4, vI x4), (5, vI x5), (6, vI x6), (7, vI x7)] []) {k108 : St → Option Nat → Int32 → Int32 → Int32 → Int32 → Int32 → Int32 → Int32 → Option (Int32 × St)} (h108 : ∀ (S : St) (x0 : Option Nat) (x2 : Int32) (x3 : Int32) (x4 : Int32) (x5 : Int32) (x6 : Int32) (x7 : Int32) (x8 : Int32), k108 S x0 x2 x3 x4 x5 x6 x7 x8 = some (r, S1) → G K 10 S 108 [(0, vR x0), (2, vI x2), (3, vI x3), (4, vI x4), (5, vI x5), (6, vI x6), (7, vI x7), (8, vI x8)] []) : ∀ (S : St) (x0 : Option Nat) (x2 : Int32) (x3 : Int32) (x4 : Int32) (x6 : Int32) (x7 : Int32) (x8 : Int32), n_X3_closest_b193 k98 k108 S x0 x2 x3 x4 x6 x7 x8 = some (r, S1) → G K 10 S 193 [(0, vR x0), (2, vI x2), (3, vI x3), (4, vI x4), (6, vI x6), (7, vI x7), (8, vI x8)] [] := by
  intro S x0 x2 x3 x4 x6 x7 x8 hd
  unfold n_X3_closest_b193 at hd
  refine g_bipush (v := 100) C dX3_closest_193 (by decide) ?_
  refine g_iload C dX3_closest_195 5 rfl ?_
  refine g_imul C dX3_closest_197 ?_
  refine g_iload C dX3_closest_198 6 rfl ?_
  refine g_iadd C dX3_closest_200 ?_
  refine g_istore (L' := [(5, vI (((100 : Int32) * x7) + x8)), (0, vR x0), (2, vI x2), (3, vI x3), (4, vI x4), (6, vI x6), (7, vI x7), (8, vI x8)]) C dX3_closest_201 (by decide) rfl ?_
  refine g_sub [1, 2, 3, 4, 0, 5, 6, 7] rfl ?_
  exact w_X3_closest_b203 C E Q h98 h108 _ _ _ _ _ _ _ _ _ hd
theorem w_X3_closest_b160 {K : KT} {r : Int32} {S1 : St} (C : GC K RX3 cX3_closest 10 5 []) (E : EH (kΓ K) (kHI K) (kl K)) (Q : GQ K (some (Jvm.ClassFile.FieldType.int)) (.inl (some (vI r))) S1) {k98 : St → Option Nat → Int32 → Int32 → Int32 → Int32 → Int32 → Int32 → Option (Int32 × St)} (h98 : ∀ (S : St) (x0 : Option Nat) (x2 : Int32) (x3 : Int32) (x4 : Int32) (x5 : Int32) (x6 : Int32) (x7 : Int32), k98 S x0 x2 x3 x4 x5 x6 x7 = some (r, S1) → G K 10 S 98 [(0, vR x0), (2, vI x2), (3, vI x3), (4, vI x4), (5, vI x5), (6, vI x6), (7, vI x7)] []) {k108 : St → Option Nat → Int32 → Int32 → Int32 → Int32 → Int32 → Int32 → Int32 → Option (Int32 × St)} (h108 : ∀ (S : St) (x0 : Option Nat) (x2 : Int32) (x3 : Int32) (x4 : Int32) (x5 : Int32) (x6 : Int32) (x7 : Int32) (x8 : Int32), k108 S x0 x2 x3 x4 x5 x6 x7 x8 = some (r, S1) → G K 10 S 108 [(0, vR x0), (2, vI x2), (3, vI x3), (4, vI x4), (5, vI x5), (6, vI x6), (7, vI x7), (8, vI x8)] []) : ∀ (S : St) (x0 : Option Nat) (x2 : Int32) (x3 : Int32) (x4 : Int32) (x5 : Int32) (x6 : Int32) (x7 : Int32) (x8 : Int32) (y0 : Int32), n_X3_closest_b160 k98 k108 S x0 x2 x3 x4 x5 x6 x7 x8 y0 = some (r, S1) → G K 10 S 160 [(0, vR x0), (2, vI x2), (3, vI x3), (4, vI x4), (5, vI x5), (6, vI x6), (7, vI x7), (8, vI x8)] [vI y0] := by
  intro S x0 x2 x3 x4 x5 x6 x7 x8 y0 hd
  unfold n_X3_closest_b160 at hd
  refine g_istore (L' := [(9, vI y0), (0, vR x0), (2, vI x2), (3, vI x3), (4, vI x4), (5, vI x5), (6, vI x6), (7, vI x7), (8, vI x8)]) C dX3_closest_160 (by decide) rfl ?_
  refine g_iload C dX3_closest_162 0 rfl ?_
  refine g_if_eq (tgt := 203) C dX3_closest_164 (by decide) hd (fun hd => ?_) (fun hd => ?_)
  · refine g_sub [1, 2, 3, 4, 5, 6, 7, 8] rfl ?_
    exact w_X3_closest_b203 C E Q h98 h108 _ _ _ _ _ _ _ _ _ hd
  · refine g_iload C dX3_closest_167 5 rfl ?_
    refine g_iconst (v := (-1)) C dX3_closest_169 (by decide) ?_
    refine g_icmp_eq (tgt := 193) C dX3_closest_170 (by decide) hd (fun hd => ?_) (fun hd => ?_)
    · refine g_sub [1, 2, 3, 4, 6, 7, 8] rfl ?_
      exact w_X3_closest_b193 C E Q h98 h108 _ _ _ _ _ _ _ _ hd
    · refine g_iload C dX3_closest_173 7 rfl ?_
      refine g_iload C dX3_closest_175 8 rfl ?_
      refine g_iload C dX3_closest_177 5 rfl ?_
      refine g_bipush (v := 100) C dX3_closest_179 (by decide) ?_
      refine g_idiv C dX3_closest_181 hd (fun hd => ?_)
      refine g_iload C dX3_closest_182 5 rfl ?_
      refine g_bipush (v := 100) C dX3_closest_184 (by decide) ?_
      refine g_irem C dX3_closest_186 hd (fun hd => ?_)
      obtain ⟨v2, S1, hc, hd⟩ := bn_some hd
      refine g_cS_v (n := 4) C q2404 q2405 q108 q2406 (by decide +kernel) (by decide) (by decide) dX3_closest_187 (As := [vI x7, vI x8, vI (x5 / (100 : Int32)), vI (x5 - x5 / (100 : Int32) * (100 : Int32))]) (rest := []) rfl rfl (Nat.le_of_ble_eq_true rfl) (m_X3_isCloser E hc) ?_
      refine g_if_eq (tgt := 203) C dX3_closest_190 (by decide) hd (fun hd => ?_) (fun hd => ?_)
      · refine g_sub [1, 2, 3, 4, 5, 6, 7, 8] rfl ?_
        exact w_X3_closest_b203 C E Q h98 h108 _ _ _ _ _ _ _ _ _ hd
      · refine g_sub [1, 2, 3, 4, 6, 7, 8] rfl ?_
        exact w_X3_closest_b193 C E Q h98 h108 _ _ _ _ _ _ _ _ hd
theorem w_X3_closest_b159 {K : KT} {r : Int32} {S1 : St} (C : GC K RX3 cX3_closest 10 5 []) (E : EH (kΓ K) (kHI K) (kl K)) (Q : GQ K (some (Jvm.ClassFile.FieldType.int)) (.inl (some (vI r))) S1) {k98 : St → Option Nat → Int32 → Int32 → Int32 → Int32 → Int32 → Int32 → Option (Int32 × St)} (h98 : ∀ (S : St) (x0 : Option Nat) (x2 : Int32) (x3 : Int32) (x4 : Int32) (x5 : Int32) (x6 : Int32) (x7 : Int32), k98 S x0 x2 x3 x4 x5 x6 x7 = some (r, S1) → G K 10 S 98 [(0, vR x0), (2, vI x2), (3, vI x3), (4, vI x4), (5, vI x5), (6, vI x6), (7, vI x7)] []) {k108 : St → Option Nat → Int32 → Int32 → Int32 → Int32 → Int32 → Int32 → Int32 → Option (Int32 × St)} (h108 : ∀ (S : St) (x0 : Option Nat) (x2 : Int32) (x3 : Int32) (x4 : Int32) (x5 : Int32) (x6 : Int32) (x7 : Int32) (x8 : Int32), k108 S x0 x2 x3 x4 x5 x6 x7 x8 = some (r, S1) → G K 10 S 108 [(0, vR x0), (2, vI x2), (3, vI x3), (4, vI x4), (5, vI x5), (6, vI x6), (7, vI x7), (8, vI x8)] []) : ∀ (S : St) (x0 : Option Nat) (x2 : Int32) (x3 : Int32) (x4 : Int32) (x5 : Int32) (x6 : Int32) (x7 : Int32) (x8 : Int32), n_X3_closest_b159 k98 k108 S x0 x2 x3 x4 x5 x6 x7 x8 = some (r, S1) → G K 10 S 159 [(0, vR x0), (2, vI x2), (3, vI x3), (4, vI x4), (5, vI x5), (6, vI x6), (7, vI x7), (8, vI x8)] [] := by
  intro S x0 x2 x3 x4 x5 x6 x7 x8 hd
  unfold n_X3_closest_b159 at hd
  refine g_iconst (v := 0) C dX3_closest_159 (by decide) ?_
  refine g_sub [0, 1, 2, 3, 4, 5, 6, 7] rfl ?_
  exact w_X3_closest_b160 C E Q h98 h108 _ _ _ _ _ _ _ _ _ _ hd
theorem w_X3_closest_b108 {K : KT} {r : Int32} {S1 : St} (C : GC K RX3 cX3_closest 10 5 []) (E : EH (kΓ K) (kHI K) (kl K)) (Q : GQ K (some (Jvm.ClassFile.FieldType.int)) (.inl (some (vI r))) S1) {k98 : St → Option Nat → Int32 → Int32 → Int32 → Int32 → Int32 → Int32 → Option (Int32 × St)} (h98 : ∀ (S : St) (x0 : Option Nat) (x2 : Int32) (x3 : Int32) (x4 : Int32) (x5 : Int32) (x6 : Int32) (x7 : Int32), k98 S x0 x2 x3 x4 x5 x6 x7 = some (r, S1) → G K 10 S 98 [(0, vR x0), (2, vI x2), (3, vI x3), (4, vI x4), (5, vI x5), (6, vI x6), (7, vI x7)] []) : ∀ (n : Nat) (S : St) (x0 : Option Nat) (x2 : Int32) (x3 : Int32) (x4 : Int32) (x5 : Int32) (x6 : Int32) (x7 : Int32) (x8 : Int32), n_X3_closest_b108 k98 n S x0 x2 x3 x4 x5 x6 x7 x8 = some (r, S1) → G K 10 S 108 [(0, vR x0), (2, vI x2), (3, vI x3), (4, vI x4), (5, vI x5), (6, vI x6), (7, vI x7), (8, vI x8)] [] := by
  intro n
  induction n with
  | zero => intro S x0 x2 x3 x4 x5 x6 x7 x8 hd; cases hd
  | succ n ih =>
    intro S x0 x2 x3 x4 x5 x6 x7 x8 hd
    unfold n_X3_closest_b108 at hd
    refine g_iload C dX3_closest_108 7 rfl ?_
    refine g_iload C dX3_closest_110 5 rfl ?_
    refine g_icmp_ge (tgt := 209) C dX3_closest_112 (by decide) hd (fun hd => ?_) (fun hd => ?_)
    · refine g_iinc (v := x7 + 1) (L' := [(7, vI (x7 + 1)), (0, vR x0), (2, vI x2), (3, vI x3), (4, vI x4), (5, vI x5), (6, vI x6), (8, vI x8)]) C dX3_closest_209 6 rfl rfl (by decide) rfl ?_
      refine g_goto (tgt := 98) C dX3_closest_212 (by decide) ?_
      refine g_sub [1, 2, 3, 4, 5, 6, 0] rfl ?_
      exact h98 _ _ _ _ _ _ _ _ hd
    · refine g_iload C dX3_closest_115 6 rfl ?_
      refine g_iload C dX3_closest_117 7 rfl ?_
      refine g_icmp_eq (tgt := 159) C dX3_closest_119 (by decide) hd (fun hd => ?_) (fun hd => ?_)
      · refine g_sub [0, 1, 2, 3, 4, 5, 6, 7] rfl ?_
        exact w_X3_closest_b159 C E Q h98 ih _ _ _ _ _ _ _ _ _ hd
      · refine g_aload_n C dX3_closest_122 rfl 0 rfl ?_
        obtain ⟨v1, hv1, hd⟩ := Option.bind_eq_some_iff.mp hd
        refine g_fld C gk_X3 (k := 27) (by decide) q1993 (Or.inl rfl) dX3_closest_123 (gR_v hv1) ?_
        refine g_bipush (v := 20) C dX3_closest_126 (by decide) ?_
        refine g_iload_n C dX3_closest_128 rfl 1 rfl ?_
        refine g_imul C dX3_closest_129 ?_
        refine g_iload C dX3_closest_130 6 rfl ?_
        refine g_iadd C dX3_closest_132 ?_
        obtain ⟨v2, hv2, hd⟩ := Option.bind_eq_some_iff.mp hd
        refine g_ialdV C dX3_closest_133 hv2 ?_
        refine g_iload_n C dX3_closest_134 rfl 2 rfl ?_
        refine g_icmp_ne (tgt := 159) C dX3_closest_135 (by decide) hd (fun hd => ?_) (fun hd => ?_)
        · refine g_sub [0, 1, 2, 3, 4, 5, 6, 7] rfl ?_
          exact w_X3_closest_b159 C E Q h98 ih _ _ _ _ _ _ _ _ _ hd
        · refine g_aload_n C dX3_closest_138 rfl 0 rfl ?_
          obtain ⟨v3, hv3, hd⟩ := Option.bind_eq_some_iff.mp hd
          refine g_fld C gk_X3 (k := 27) (by decide) q1993 (Or.inl rfl) dX3_closest_139 (gR_v hv3) ?_
          refine g_bipush (v := 20) C dX3_closest_142 (by decide) ?_
          refine g_iload_n C dX3_closest_144 rfl 1 rfl ?_
          refine g_imul C dX3_closest_145 ?_
          refine g_iload C dX3_closest_146 7 rfl ?_
          refine g_iadd C dX3_closest_148 ?_
          obtain ⟨v4, hv4, hd⟩ := Option.bind_eq_some_iff.mp hd
          refine g_ialdV C dX3_closest_149 hv4 ?_
          refine g_iload C dX3_closest_150 3 rfl ?_
          refine g_icmp_ne (tgt := 159) C dX3_closest_152 (by decide) hd (fun hd => ?_) (fun hd => ?_)
          · refine g_sub [0, 1, 2, 3, 4, 5, 6, 7] rfl ?_
            exact w_X3_closest_b159 C E Q h98 ih _ _ _ _ _ _ _ _ _ hd
          · refine g_iconst (v := 1) C dX3_closest_155 (by decide) ?_
            refine g_goto (tgt := 160) C dX3_closest_156 (by decide) ?_
            refine g_sub [0, 1, 2, 3, 4, 5, 6, 7] rfl ?_
            exact w_X3_closest_b160 C E Q h98 ih _ _ _ _ _ _ _ _ _ _ hd
theorem w_X3_closest_b98 {K : KT} {r : Int32} {S1 : St} (C : GC K RX3 cX3_closest 10 5 []) (E : EH (kΓ K) (kHI K) (kl K)) (Q : GQ K (some (Jvm.ClassFile.FieldType.int)) (.inl (some (vI r))) S1) : ∀ (n : Nat) (S : St) (x0 : Option Nat) (x2 : Int32) (x3 : Int32) (x4 : Int32) (x5 : Int32) (x6 : Int32) (x7 : Int32), n_X3_closest_b98 n S x0 x2 x3 x4 x5 x6 x7 = some (r, S1) → G K 10 S 98 [(0, vR x0), (2, vI x2), (3, vI x3), (4, vI x4), (5, vI x5), (6, vI x6), (7, vI x7)] [] := by
  intro n
  induction n with
  | zero => intro S x0 x2 x3 x4 x5 x6 x7 hd; cases hd
  | succ n ih =>
    intro S x0 x2 x3 x4 x5 x6 x7 hd
    unfold n_X3_closest_b98 at hd
    refine g_iload C dX3_closest_98 6 rfl ?_
    refine g_iload C dX3_closest_100 5 rfl ?_
    refine g_icmp_ge (tgt := 215) C dX3_closest_102 (by decide) hd (fun hd => ?_) (fun hd => ?_)
    · refine g_iload C dX3_closest_215 4 rfl ?_
      exact g_iret C Q hd dX3_closest_217
    · refine g_iconst (v := 0) C dX3_closest_105 (by decide) ?_
      refine g_istore (L' := [(8, vI (0 : Int32)), (0, vR x0), (2, vI x2), (3, vI x3), (4, vI x4), (5, vI x5), (6, vI x6), (7, vI x7)]) C dX3_closest_106 (by decide) rfl ?_
      refine g_sub [1, 2, 3, 4, 5, 6, 7, 0] rfl ?_
      exact w_X3_closest_b108 C E Q ih FU _ _ _ _ _ _ _ _ _ hd
theorem w_X3_closest_b93 {K : KT} {r : Int32} {S1 : St} (C : GC K RX3 cX3_closest 10 5 []) (E : EH (kΓ K) (kHI K) (kl K)) (Q : GQ K (some (Jvm.ClassFile.FieldType.int)) (.inl (some (vI r))) S1) : ∀ (S : St) (x0 : Option Nat) (x2 : Int32) (x3 : Int32) (x4 : Int32) (x5 : Int32) (y0 : Int32), n_X3_closest_b93 S x0 x2 x3 x4 x5 y0 = some (r, S1) → G K 10 S 93 [(0, vR x0), (2, vI x2), (3, vI x3), (4, vI x4), (5, vI x5)] [vI y0] := by
  intro S x0 x2 x3 x4 x5 y0 hd
  unfold n_X3_closest_b93 at hd
  refine g_istore (L' := [(6, vI y0), (0, vR x0), (2, vI x2), (3, vI x3), (4, vI x4), (5, vI x5)]) C dX3_closest_93 (by decide) rfl ?_
  refine g_iconst (v := 0) C dX3_closest_95 (by decide) ?_
  refine g_istore (L' := [(7, vI (0 : Int32)), (6, vI y0), (0, vR x0), (2, vI x2), (3, vI x3), (4, vI x4), (5, vI x5)]) C dX3_closest_96 (by decide) rfl ?_
  refine g_sub [2, 3, 4, 5, 6, 1, 0] rfl ?_
  exact w_X3_closest_b98 C E Q FU _ _ _ _ _ _ _ _ hd
theorem w_X3_closest_b59 {K : KT} {r : Int32} {S1 : St} (C : GC K RX3 cX3_closest 10 5 []) (E : EH (kΓ K) (kHI K) (kl K)) (Q : GQ K (some (Jvm.ClassFile.FieldType.int)) (.inl (some (vI r))) S1) : ∀ (S : St) (x0 : Option Nat) (x2 : Int32) (x3 : Int32) (x4 : Int32) (y0 : Int32) (y1 : Option Nat), n_X3_closest_b59 S x0 x2 x3 x4 y0 y1 = some (r, S1) → G K 10 S 59 [(0, vR x0), (2, vI x2), (3, vI x3), (4, vI x4)] [vI y0, vR y1] := by
  intro S x0 x2 x3 x4 y0 y1 hd
  unfold n_X3_closest_b59 at hd
  obtain ⟨S1, hS1, hd⟩ := Option.bind_eq_some_iff.mp hd
  refine g_put C gk_X3 (k := 0) (by decide) q1966 (Or.inl rfl) rfl dX3_closest_59 (gfit_ok (pI_v hS1).1).1 (gfit_ok (pI_v hS1).1).2 (pI_v hS1).2 ?_
  refine g_aload_n C dX3_closest_62 rfl 0 rfl ?_
  obtain ⟨v2, hv2, hd⟩ := Option.bind_eq_some_iff.mp hd
  refine g_fld C gk_X3 (k := 0) (by decide) q1966 (Or.inl rfl) dX3_closest_63 (gI_v hv2) ?_
  refine g_if_le (tgt := 71) C dX3_closest_66 (by decide) hd (fun hd => ?_) (fun hd => ?_)
  · refine g_iconst (v := (-1)) C dX3_closest_71 (by decide) ?_
    refine g_istore (L' := [(5, vI (-1 : Int32)), (0, vR x0), (2, vI x2), (3, vI x3), (4, vI x4)]) C dX3_closest_72 (by decide) rfl ?_
    refine g_aload_n C dX3_closest_74 rfl 1 rfl ?_
    obtain ⟨v3, hv3, hd⟩ := Option.bind_eq_some_iff.mp hd
    refine g_fld C gk_X3 (k := 22) (by decide) q1988 (Or.inl rfl) dX3_closest_75 (gR_v hv3) ?_
    refine g_iload_n C dX3_closest_78 rfl 2 rfl ?_
    obtain ⟨v4, hv4, hd⟩ := Option.bind_eq_some_iff.mp hd
    refine g_zaldV C dX3_closest_79 hv4 ?_
    refine g_if_eq (tgt := 92) C dX3_closest_80 (by decide) hd (fun hd => ?_) (fun hd => ?_)
    · refine g_iconst (v := 0) C dX3_closest_92 (by decide) ?_
      refine g_sub [1, 2, 3, 4, 0] rfl ?_
      exact w_X3_closest_b93 C E Q _ _ _ _ _ _ _ hd
    · refine g_aload_n C dX3_closest_83 rfl 1 rfl ?_
      obtain ⟨v5, hv5, hd⟩ := Option.bind_eq_some_iff.mp hd
      refine g_fld C gk_X3 (k := 26) (by decide) q1992 (Or.inl rfl) dX3_closest_84 (gR_v hv5) ?_
      refine g_iload_n C dX3_closest_87 rfl 2 rfl ?_
      obtain ⟨v6, hv6, hd⟩ := Option.bind_eq_some_iff.mp hd
      refine g_ialdV C dX3_closest_88 hv6 ?_
      refine g_goto (tgt := 93) C dX3_closest_89 (by decide) ?_
      refine g_sub [1, 2, 3, 4, 0] rfl ?_
      exact w_X3_closest_b93 C E Q _ _ _ _ _ _ _ hd
  · refine g_iconst (v := 0) C dX3_closest_69 (by decide) ?_
    exact g_iret C Q hd dX3_closest_70
theorem w_X3_closest_b58 {K : KT} {r : Int32} {S1 : St} (C : GC K RX3 cX3_closest 10 5 []) (E : EH (kΓ K) (kHI K) (kl K)) (Q : GQ K (some (Jvm.ClassFile.FieldType.int)) (.inl (some (vI r))) S1) : ∀ (S : St) (x0 : Option Nat) (x2 : Int32) (x3 : Int32) (x4 : Int32) (y0 : Option Nat), n_X3_closest_b58 S x0 x2 x3 x4 y0 = some (r, S1) → G K 10 S 58 [(0, vR x0), (2, vI x2), (3, vI x3), (4, vI x4)] [vR y0] := by
  intro S x0 x2 x3 x4 y0 hd
  unfold n_X3_closest_b58 at hd
  refine g_iconst (v := 2) C dX3_closest_58 (by decide) ?_
  refine g_sub [0, 1, 2, 3] rfl ?_
  exact w_X3_closest_b59 C E Q _ _ _ _ _ _ _ hd
theorem w_X3_closest_b0m {K : KT} {r : Int32} {S1 : St} (C : GC K RX3 cX3_closest 10 5 []) (E : EH (kΓ K) (kHI K) (kl K)) (Q : GQ K (some (Jvm.ClassFile.FieldType.int)) (.inl (some (vI r))) S1) : ∀ (S : St) (x0 : Option Nat) (x1 : Int32) (x2 : Int32) (x3 : Int32) (x4 : Int32), n_X3_closest S x0 x1 x2 x3 x4 = some (r, S1) → G K 10 S 0 [(0, vR x0), (1, vI x1), (2, vI x2), (3, vI x3), (4, vI x4)] [] := by
  intro S x0 x1 x2 x3 x4 hd
  unfold n_X3_closest at hd
  refine g_iload_n C dX3_closest_0 rfl 1 rfl ?_
  refine g_iconst (v := 0) C dX3_closest_1 (by decide) ?_
  refine g_iconst (v := 3) C dX3_closest_2 (by decide) ?_
  obtain ⟨v2, S1, hc, hd⟩ := bn_some hd
  refine g_cS_v (n := 3) C q2124 q2125 q108 q2126 (by decide +kernel) (by decide) (by decide) dX3_closest_3 (As := [vI x1, vI (0 : Int32), vI (3 : Int32)]) (rest := []) rfl rfl (Nat.le_of_ble_eq_true rfl) (m_X3_in E hc) ?_
  refine g_if_eq (tgt := 26) C dX3_closest_6 (by decide) hd (fun hd => ?_) (fun hd => ?_)
  · refine g_sub [0] rfl ?_
    exact w_X3_closest_b26 C E Q _ _ hd
  · refine g_aload_n C dX3_closest_9 rfl 0 rfl ?_
    refine g_iload_n C dX3_closest_10 rfl 2 rfl ?_
    obtain ⟨hg, hd⟩ := gd_some hd
    obtain ⟨v4, S3, hc, hd⟩ := bn_some hd
    refine g_cV_v (n := 1) C (gk_X3).1 q2151 q2153 qs58 q108 q2154 (by decide +kernel) (by decide) (by decide) dX3_closest_11 (As := [vI x2]) (rest := []) rfl rfl (Nat.le_of_ble_eq_true rfl) hg (m_X3_isFileAt E hc) ?_
    refine g_if_eq (tgt := 26) C dX3_closest_14 (by decide) hd (fun hd => ?_) (fun hd => ?_)
    · refine g_sub [0] rfl ?_
      exact w_X3_closest_b26 C E Q _ _ hd
    · refine g_aload_n C dX3_closest_17 rfl 0 rfl ?_
      refine g_iload_n C dX3_closest_18 rfl 1 rfl ?_
      refine g_iload_n C dX3_closest_19 rfl 2 rfl ?_
      obtain ⟨hg, hd⟩ := gd_some hd
      obtain ⟨v6, S5, hc, hd⟩ := bn_some hd
      refine g_cV_v (n := 2) C (gk_X3).1 q2199 q2201 qs64 q108 q2202 (by decide +kernel) (by decide) (by decide) dX3_closest_20 (As := [vI x1, vI x2]) (rest := []) rfl rfl (Nat.le_of_ble_eq_true rfl) hg (m_X3_mayReadAt E hc) ?_
      refine g_if_ne (tgt := 32) C dX3_closest_23 (by decide) hd (fun hd => ?_) (fun hd => ?_)
      · refine g_aload_n C dX3_closest_32 rfl 0 rfl ?_
        refine g_iload_n C dX3_closest_33 rfl 3 rfl ?_
        refine g_iconst (v := 0) C dX3_closest_34 (by decide) ?_
        refine g_bipush (v := 99) C dX3_closest_35 (by decide) ?_
        obtain ⟨v8, S7, hc, hd⟩ := bn_some hd
        refine g_cS_v (n := 3) C q2124 q2125 q108 q2126 (by decide +kernel) (by decide) (by decide) dX3_closest_37 (As := [vI x3, vI (0 : Int32), vI (99 : Int32)]) (rest := [vR x0]) rfl rfl (Nat.le_of_ble_eq_true rfl) (m_X3_in E hc) ?_
        refine g_if_eq (tgt := 58) C dX3_closest_40 (by decide) hd (fun hd => ?_) (fun hd => ?_)
        · refine g_sub [0, 2, 3, 4] rfl ?_
          exact w_X3_closest_b58 C E Q _ _ _ _ _ _ hd
        · refine g_iload C dX3_closest_43 4 rfl ?_
          refine g_iconst (v := 0) C dX3_closest_45 (by decide) ?_
          refine g_bipush (v := 99) C dX3_closest_46 (by decide) ?_
          obtain ⟨v10, S9, hc, hd⟩ := bn_some hd
          refine g_cS_v (n := 3) C q2124 q2125 q108 q2126 (by decide +kernel) (by decide) (by decide) dX3_closest_48 (As := [vI x4, vI (0 : Int32), vI (99 : Int32)]) (rest := [vR x0]) rfl rfl (Nat.le_of_ble_eq_true rfl) (m_X3_in E hc) ?_
          refine g_if_eq (tgt := 58) C dX3_closest_51 (by decide) hd (fun hd => ?_) (fun hd => ?_)
          · refine g_sub [0, 2, 3, 4] rfl ?_
            exact w_X3_closest_b58 C E Q _ _ _ _ _ _ hd
          · refine g_iconst (v := 0) C dX3_closest_54 (by decide) ?_
            refine g_goto (tgt := 59) C dX3_closest_55 (by decide) ?_
            refine g_sub [0, 2, 3, 4] rfl ?_
            exact w_X3_closest_b59 C E Q _ _ _ _ _ _ _ hd
      · refine g_sub [0] rfl ?_
        exact w_X3_closest_b26 C E Q _ _ hd
theorem m_X3_closest {Γ : GG} {HI : St → Heap → Prop} {l : Launch} (E : EH Γ HI l) {S : St} {a0 : Option Nat} {a1 : Int32} {a2 : Int32} {a3 : Int32} {a4 : Int32} {r : Int32} {S1 : St} (h : n_X3_closest S a0 a1 a2 a3 a4 = some (r, S1)) : MS Γ HI l yX3_closest cX3_closest 10 (some (Jvm.ClassFile.FieldType.int)) 5 S [vR a0, vI a1, vI a2, vI a3, vI a4] (.inl (some (vI r))) S1 := by
  refine MS_of E.ntr E.hx (by decide +kernel) rfl (Nat.le_of_ble_eq_true rfl) fun K e1 e2 e3 e4 hnm C Q => ?_
  subst e1; subst e2; subst e3
  exact w_X3_closest_b0m C E Q S a0 a1 a2 a3 a4 h

