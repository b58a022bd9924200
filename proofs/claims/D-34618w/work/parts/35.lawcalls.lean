/-! the law: its calls -/
def n_X0_make (S : St) (x0 : Option Nat) (x1 : Int32) (x2 : Int32) (x3 : Int32) (x4 : Option Nat) : Option (Int32 × St) :=
  gd (grc S x0 0) <|
  cbn (n_X1_make S x0 x1 x2 x3) (fun E9 S1 => if E9 = "java/lang/IndexOutOfBoundsException" then rtI id (Jvm.ClassFile.FieldType.int) (1 : Int32) S1 else if E9 = "java/lang/IllegalArgumentException" then rtI id (Jvm.ClassFile.FieldType.int) (2 : Int32) S1 else if E9 = "java/lang/IllegalStateException" then rtI id (Jvm.ClassFile.FieldType.int) (3 : Int32) S1 else none) fun v2 S1 =>
  (sL S1 x4 (0 : Int32) (v2.toInt64)).bind fun S3 =>
  rtI id (Jvm.ClassFile.FieldType.int) (0 : Int32) S3
theorem w_X0_make_b0m {K : KT} {r : Int32} {S1 : St} (C : GC K RX0 cX0_make 6 11 (g_tab [(0, 12, 15, 13), (0, 12, 19, 15), (0, 12, 23, 17)])) (E : EH (kΓ K) (kHI K) (kl K)) (Q : GQ K (some (Jvm.ClassFile.FieldType.int)) (.inl (some (vI r))) S1) : ∀ (S : St) (x0 : Option Nat) (x1 : Int32) (x2 : Int32) (x3 : Int32) (x4 : Option Nat), n_X0_make S x0 x1 x2 x3 x4 = some (r, S1) → G K 6 S 0 [(0, vR x0), (1, vI x1), (2, vI x2), (3, vI x3), (4, vR x4)] [] := by
  intro S x0 x1 x2 x3 x4 hd
  unfold n_X0_make at hd
  refine g_aload C dX0_make_0 4 rfl ?_
  refine g_iconst (v := 0) C dX0_make_2 (by decide) ?_
  refine g_aload_n C dX0_make_3 rfl 0 rfl ?_
  refine g_iload_n C dX0_make_4 rfl 1 rfl ?_
  refine g_iload_n C dX0_make_5 rfl 2 rfl ?_
  refine g_iload_n C dX0_make_6 rfl 3 rfl ?_
  obtain ⟨hg, hd⟩ := gd_some hd
  rcases cbn_some hd with ⟨E9, S1, hc, hd⟩ | ⟨v2, S1, hc, hd⟩
  · refine g_cV_x (n := 3) C (gk_X1).1 q1118 q1119 q1120 q95 q1121 (by decide +kernel) (by decide) (by decide) dX0_make_7 (As := [vI x1, vI x2, vI x3]) (rest := [vI (0 : Int32), vR x4]) rfl rfl (Nat.le_of_ble_eq_true rfl) hg (m_X1_make E hc) ?_
    by_cases hE : E9 = "java/lang/IndexOutOfBoundsException"
    · rw [if_pos hE] at hd; subst hE
      refine g_catch C [] ⟨0, 12, 15, 13⟩ [⟨0, 12, 19, 15⟩, ⟨0, 12, 23, 17⟩] rfl (fun z hz => nomatch hz) rfl (by decide) q1100 q474 fun q9 => ?_
      refine g_astore (L' := [(5, vR (some q9)), (0, vR x0), (1, vI x1), (2, vI x2), (3, vI x3), (4, vR x4)]) C dX0_make_15 (by decide) rfl ?_
      refine g_iconst (v := 1) C dX0_make_17 (by decide) ?_
      exact g_iret C Q hd dX0_make_18
    · rw [if_neg hE] at hd
      by_cases hE : E9 = "java/lang/IllegalArgumentException"
      · rw [if_pos hE] at hd; subst hE
        refine g_catch C [⟨0, 12, 15, 13⟩] ⟨0, 12, 19, 15⟩ [⟨0, 12, 23, 17⟩] rfl (by simp only [List.forall_mem_cons]; exact ⟨Or.inr ⟨by decide, _, q1100, fun lv => (C lv).hk.2.2.2.2.2.2.2.2.1⟩, fun _ h => nomatch h⟩) rfl (by decide) q1116 q722 fun q9 => ?_
        refine g_astore (L' := [(5, vR (some q9)), (0, vR x0), (1, vI x1), (2, vI x2), (3, vI x3), (4, vR x4)]) C dX0_make_19 (by decide) rfl ?_
        refine g_iconst (v := 2) C dX0_make_21 (by decide) ?_
        exact g_iret C Q hd dX0_make_22
      · rw [if_neg hE] at hd
        by_cases hE : E9 = "java/lang/IllegalStateException"
        · rw [if_pos hE] at hd; subst hE
          refine g_catch C [⟨0, 12, 15, 13⟩, ⟨0, 12, 19, 15⟩] ⟨0, 12, 23, 17⟩ [] rfl (by simp only [List.forall_mem_cons]; exact ⟨Or.inr ⟨by decide, _, q1100, fun lv => (C lv).hk.2.2.2.2.2.2.2.2.2.1⟩, Or.inr ⟨by decide, _, q1116, fun lv => (C lv).hk.2.2.2.2.2.2.2.2.2.2⟩, fun _ h => nomatch h⟩) rfl (by decide) q1117 q1167 fun q9 => ?_
          refine g_astore (L' := [(5, vR (some q9)), (0, vR x0), (1, vI x1), (2, vI x2), (3, vI x3), (4, vR x4)]) C dX0_make_23 (by decide) rfl ?_
          refine g_iconst (v := 3) C dX0_make_25 (by decide) ?_
          exact g_iret C Q hd dX0_make_26
        · rw [if_neg hE] at hd
          cases hd
  refine g_cV_v (n := 3) C (gk_X1).1 q1118 q1119 q1120 q95 q1121 (by decide +kernel) (by decide) (by decide) dX0_make_7 (As := [vI x1, vI x2, vI x3]) (rest := [vI (0 : Int32), vR x4]) rfl rfl (Nat.le_of_ble_eq_true rfl) hg (m_X1_make E hc) ?_
  refine g_i2l C dX0_make_10 ?_
  obtain ⟨S3, hS3, hd⟩ := Option.bind_eq_some_iff.mp hd
  refine g_last C dX0_make_11 hS3 ?_
  refine g_goto (tgt := 27) C dX0_make_12 (by decide) ?_
  refine g_iconst (v := 0) C dX0_make_27 (by decide) ?_
  exact g_iret C Q hd dX0_make_28
theorem m_X0_make {Γ : GG} {HI : St → Heap → Prop} {l : Launch} (E : EH Γ HI l) {S : St} {a0 : Option Nat} {a1 : Int32} {a2 : Int32} {a3 : Int32} {a4 : Option Nat} {r : Int32} {S1 : St} (h : n_X0_make S a0 a1 a2 a3 a4 = some (r, S1)) : MSW Γ HI l yX0_make cX0_make 6 (some (Jvm.ClassFile.FieldType.int)) [(0, 12, 15, 13), (0, 12, 19, 15), (0, 12, 23, 17)] 11 S [vR a0, vI a1, vI a2, vI a3, vR a4] (.inl (some (vI r))) S1 := by
  refine MSW_of E.ntr E.hx (by decide +kernel) rfl (Nat.le_of_ble_eq_true rfl) fun K e1 e2 e3 e4 hnm C Q => ?_
  subst e1; subst e2; subst e3
  exact w_X0_make_b0m C E Q S a0 a1 a2 a3 a4 h

def n_X0_write (S : St) (x0 : Option Nat) (x1 : Int32) (x2 : Int32) (x3 : Option Nat) : Option (Int32 × St) :=
  gd (grc S x0 0) <|
  cbn (n_X1_write S x0 x1 x2) (fun E9 S1 => if E9 = "java/lang/IndexOutOfBoundsException" then rtI id (Jvm.ClassFile.FieldType.int) (1 : Int32) S1 else if E9 = "java/lang/IllegalArgumentException" then rtI id (Jvm.ClassFile.FieldType.int) (2 : Int32) S1 else if E9 = "java/lang/IllegalStateException" then rtI id (Jvm.ClassFile.FieldType.int) (3 : Int32) S1 else none) fun v2 S1 =>
  (sL S1 x3 (0 : Int32) (v2.toInt64)).bind fun S3 =>
  rtI id (Jvm.ClassFile.FieldType.int) (0 : Int32) S3
theorem w_X0_write_b0m {K : KT} {r : Int32} {S1 : St} (C : GC K RX0 cX0_write 5 11 (g_tab [(0, 10, 13, 13), (0, 10, 17, 15), (0, 10, 21, 17)])) (E : EH (kΓ K) (kHI K) (kl K)) (Q : GQ K (some (Jvm.ClassFile.FieldType.int)) (.inl (some (vI r))) S1) : ∀ (S : St) (x0 : Option Nat) (x1 : Int32) (x2 : Int32) (x3 : Option Nat), n_X0_write S x0 x1 x2 x3 = some (r, S1) → G K 5 S 0 [(0, vR x0), (1, vI x1), (2, vI x2), (3, vR x3)] [] := by
  intro S x0 x1 x2 x3 hd
  unfold n_X0_write at hd
  refine g_aload_n C dX0_write_0 rfl 3 rfl ?_
  refine g_iconst (v := 0) C dX0_write_1 (by decide) ?_
  refine g_aload_n C dX0_write_2 rfl 0 rfl ?_
  refine g_iload_n C dX0_write_3 rfl 1 rfl ?_
  refine g_iload_n C dX0_write_4 rfl 2 rfl ?_
  obtain ⟨hg, hd⟩ := gd_some hd
  rcases cbn_some hd with ⟨E9, S1, hc, hd⟩ | ⟨v2, S1, hc, hd⟩
  · refine g_cV_x (n := 2) C (gk_X1).1 q1217 q1218 q1219 q95 q1220 (by decide +kernel) (by decide) (by decide) dX0_write_5 (As := [vI x1, vI x2]) (rest := [vI (0 : Int32), vR x3]) rfl rfl (Nat.le_of_ble_eq_true rfl) hg (m_X1_write E hc) ?_
    by_cases hE : E9 = "java/lang/IndexOutOfBoundsException"
    · rw [if_pos hE] at hd; subst hE
      refine g_catch C [] ⟨0, 10, 13, 13⟩ [⟨0, 10, 17, 15⟩, ⟨0, 10, 21, 17⟩] rfl (fun z hz => nomatch hz) rfl (by decide) q1100 q474 fun q9 => ?_
      refine g_astore (L' := [(4, vR (some q9)), (0, vR x0), (1, vI x1), (2, vI x2), (3, vR x3)]) C dX0_write_13 (by decide) rfl ?_
      refine g_iconst (v := 1) C dX0_write_15 (by decide) ?_
      exact g_iret C Q hd dX0_write_16
    · rw [if_neg hE] at hd
      by_cases hE : E9 = "java/lang/IllegalArgumentException"
      · rw [if_pos hE] at hd; subst hE
        refine g_catch C [⟨0, 10, 13, 13⟩] ⟨0, 10, 17, 15⟩ [⟨0, 10, 21, 17⟩] rfl (by simp only [List.forall_mem_cons]; exact ⟨Or.inr ⟨by decide, _, q1100, fun lv => (C lv).hk.2.2.2.2.2.2.2.2.1⟩, fun _ h => nomatch h⟩) rfl (by decide) q1116 q722 fun q9 => ?_
        refine g_astore (L' := [(4, vR (some q9)), (0, vR x0), (1, vI x1), (2, vI x2), (3, vR x3)]) C dX0_write_17 (by decide) rfl ?_
        refine g_iconst (v := 2) C dX0_write_19 (by decide) ?_
        exact g_iret C Q hd dX0_write_20
      · rw [if_neg hE] at hd
        by_cases hE : E9 = "java/lang/IllegalStateException"
        · rw [if_pos hE] at hd; subst hE
          refine g_catch C [⟨0, 10, 13, 13⟩, ⟨0, 10, 17, 15⟩] ⟨0, 10, 21, 17⟩ [] rfl (by simp only [List.forall_mem_cons]; exact ⟨Or.inr ⟨by decide, _, q1100, fun lv => (C lv).hk.2.2.2.2.2.2.2.2.2.1⟩, Or.inr ⟨by decide, _, q1116, fun lv => (C lv).hk.2.2.2.2.2.2.2.2.2.2⟩, fun _ h => nomatch h⟩) rfl (by decide) q1117 q1167 fun q9 => ?_
          refine g_astore (L' := [(4, vR (some q9)), (0, vR x0), (1, vI x1), (2, vI x2), (3, vR x3)]) C dX0_write_21 (by decide) rfl ?_
          refine g_iconst (v := 3) C dX0_write_23 (by decide) ?_
          exact g_iret C Q hd dX0_write_24
        · rw [if_neg hE] at hd
          cases hd
  refine g_cV_v (n := 2) C (gk_X1).1 q1217 q1218 q1219 q95 q1220 (by decide +kernel) (by decide) (by decide) dX0_write_5 (As := [vI x1, vI x2]) (rest := [vI (0 : Int32), vR x3]) rfl rfl (Nat.le_of_ble_eq_true rfl) hg (m_X1_write E hc) ?_
  refine g_i2l C dX0_write_8 ?_
  obtain ⟨S3, hS3, hd⟩ := Option.bind_eq_some_iff.mp hd
  refine g_last C dX0_write_9 hS3 ?_
  refine g_goto (tgt := 25) C dX0_write_10 (by decide) ?_
  refine g_iconst (v := 0) C dX0_write_25 (by decide) ?_
  exact g_iret C Q hd dX0_write_26
theorem m_X0_write {Γ : GG} {HI : St → Heap → Prop} {l : Launch} (E : EH Γ HI l) {S : St} {a0 : Option Nat} {a1 : Int32} {a2 : Int32} {a3 : Option Nat} {r : Int32} {S1 : St} (h : n_X0_write S a0 a1 a2 a3 = some (r, S1)) : MSW Γ HI l yX0_write cX0_write 5 (some (Jvm.ClassFile.FieldType.int)) [(0, 10, 13, 13), (0, 10, 17, 15), (0, 10, 21, 17)] 11 S [vR a0, vI a1, vI a2, vR a3] (.inl (some (vI r))) S1 := by
  refine MSW_of E.ntr E.hx (by decide +kernel) rfl (Nat.le_of_ble_eq_true rfl) fun K e1 e2 e3 e4 hnm C Q => ?_
  subst e1; subst e2; subst e3
  exact w_X0_write_b0m C E Q S a0 a1 a2 a3 h

def n_X0_empty (S : St) (x0 : Option Nat) (x1 : Int32) (x2 : Option Nat) : Option (Int32 × St) :=
  gd (grc S x0 0) <|
  cbn (n_X1_empty S x0 x1) (fun E9 S1 => if E9 = "java/lang/IndexOutOfBoundsException" then rtI id (Jvm.ClassFile.FieldType.int) (1 : Int32) S1 else if E9 = "java/lang/IllegalStateException" then rtI id (Jvm.ClassFile.FieldType.int) (2 : Int32) S1 else none) fun v2 S1 =>
  (sL S1 x2 (0 : Int32) (v2.toInt64)).bind fun S3 =>
  rtI id (Jvm.ClassFile.FieldType.int) (0 : Int32) S3
theorem w_X0_empty_b0m {K : KT} {r : Int32} {S1 : St} (C : GC K RX0 cX0_empty 4 11 (g_tab [(0, 9, 12, 13), (0, 9, 15, 17)])) (E : EH (kΓ K) (kHI K) (kl K)) (Q : GQ K (some (Jvm.ClassFile.FieldType.int)) (.inl (some (vI r))) S1) : ∀ (S : St) (x0 : Option Nat) (x1 : Int32) (x2 : Option Nat), n_X0_empty S x0 x1 x2 = some (r, S1) → G K 4 S 0 [(0, vR x0), (1, vI x1), (2, vR x2)] [] := by
  intro S x0 x1 x2 hd
  unfold n_X0_empty at hd
  refine g_aload_n C dX0_empty_0 rfl 2 rfl ?_
  refine g_iconst (v := 0) C dX0_empty_1 (by decide) ?_
  refine g_aload_n C dX0_empty_2 rfl 0 rfl ?_
  refine g_iload_n C dX0_empty_3 rfl 1 rfl ?_
  obtain ⟨hg, hd⟩ := gd_some hd
  rcases cbn_some hd with ⟨E9, S1, hc, hd⟩ | ⟨v2, S1, hc, hd⟩
  · refine g_cV_x (n := 1) C (gk_X1).1 q1257 q1258 q1259 q95 q1260 (by decide +kernel) (by decide) (by decide) dX0_empty_4 (As := [vI x1]) (rest := [vI (0 : Int32), vR x2]) rfl rfl (Nat.le_of_ble_eq_true rfl) hg (m_X1_empty E hc) ?_
    by_cases hE : E9 = "java/lang/IndexOutOfBoundsException"
    · rw [if_pos hE] at hd; subst hE
      refine g_catch C [] ⟨0, 9, 12, 13⟩ [⟨0, 9, 15, 17⟩] rfl (fun z hz => nomatch hz) rfl (by decide) q1100 q474 fun q9 => ?_
      refine g_astore_n (L' := [(3, vR (some q9)), (0, vR x0), (1, vI x1), (2, vR x2)]) C dX0_empty_12 rfl (by decide) rfl ?_
      refine g_iconst (v := 1) C dX0_empty_13 (by decide) ?_
      exact g_iret C Q hd dX0_empty_14
    · rw [if_neg hE] at hd
      by_cases hE : E9 = "java/lang/IllegalStateException"
      · rw [if_pos hE] at hd; subst hE
        refine g_catch C [⟨0, 9, 12, 13⟩] ⟨0, 9, 15, 17⟩ [] rfl (by simp only [List.forall_mem_cons]; exact ⟨Or.inr ⟨by decide, _, q1100, fun lv => (C lv).hk.2.2.2.2.2.2.2.2.2.1⟩, fun _ h => nomatch h⟩) rfl (by decide) q1117 q1167 fun q9 => ?_
        refine g_astore_n (L' := [(3, vR (some q9)), (0, vR x0), (1, vI x1), (2, vR x2)]) C dX0_empty_15 rfl (by decide) rfl ?_
        refine g_iconst (v := 2) C dX0_empty_16 (by decide) ?_
        exact g_iret C Q hd dX0_empty_17
      · rw [if_neg hE] at hd
        cases hd
  refine g_cV_v (n := 1) C (gk_X1).1 q1257 q1258 q1259 q95 q1260 (by decide +kernel) (by decide) (by decide) dX0_empty_4 (As := [vI x1]) (rest := [vI (0 : Int32), vR x2]) rfl rfl (Nat.le_of_ble_eq_true rfl) hg (m_X1_empty E hc) ?_
  refine g_i2l C dX0_empty_7 ?_
  obtain ⟨S3, hS3, hd⟩ := Option.bind_eq_some_iff.mp hd
  refine g_last C dX0_empty_8 hS3 ?_
  refine g_goto (tgt := 18) C dX0_empty_9 (by decide) ?_
  refine g_iconst (v := 0) C dX0_empty_18 (by decide) ?_
  exact g_iret C Q hd dX0_empty_19
theorem m_X0_empty {Γ : GG} {HI : St → Heap → Prop} {l : Launch} (E : EH Γ HI l) {S : St} {a0 : Option Nat} {a1 : Int32} {a2 : Option Nat} {r : Int32} {S1 : St} (h : n_X0_empty S a0 a1 a2 = some (r, S1)) : MSW Γ HI l yX0_empty cX0_empty 4 (some (Jvm.ClassFile.FieldType.int)) [(0, 9, 12, 13), (0, 9, 15, 17)] 11 S [vR a0, vI a1, vR a2] (.inl (some (vI r))) S1 := by
  refine MSW_of E.ntr E.hx (by decide +kernel) rfl (Nat.le_of_ble_eq_true rfl) fun K e1 e2 e3 e4 hnm C Q => ?_
  subst e1; subst e2; subst e3
  exact w_X0_empty_b0m C E Q S a0 a1 a2 h

def n_X0_move (S : St) (x0 : Option Nat) (x1 : Int32) (x2 : Int32) (x3 : Int32) (x4 : Option Nat) : Option (Int32 × St) :=
  gd (grc S x0 0) <|
  cbn (n_X1_move S x0 x1 x2 x3) (fun E9 S1 => if E9 = "java/lang/IndexOutOfBoundsException" then rtI id (Jvm.ClassFile.FieldType.int) (1 : Int32) S1 else if E9 = "java/lang/IllegalArgumentException" then rtI id (Jvm.ClassFile.FieldType.int) (2 : Int32) S1 else if E9 = "java/lang/IllegalStateException" then rtI id (Jvm.ClassFile.FieldType.int) (3 : Int32) S1 else none) fun v2 S1 =>
  (sL S1 x4 (0 : Int32) (v2.toInt64)).bind fun S3 =>
  rtI id (Jvm.ClassFile.FieldType.int) (0 : Int32) S3
theorem w_X0_move_b0m {K : KT} {r : Int32} {S1 : St} (C : GC K RX0 cX0_move 6 11 (g_tab [(0, 12, 15, 13), (0, 12, 19, 15), (0, 12, 23, 17)])) (E : EH (kΓ K) (kHI K) (kl K)) (Q : GQ K (some (Jvm.ClassFile.FieldType.int)) (.inl (some (vI r))) S1) : ∀ (S : St) (x0 : Option Nat) (x1 : Int32) (x2 : Int32) (x3 : Int32) (x4 : Option Nat), n_X0_move S x0 x1 x2 x3 x4 = some (r, S1) → G K 6 S 0 [(0, vR x0), (1, vI x1), (2, vI x2), (3, vI x3), (4, vR x4)] [] := by
  intro S x0 x1 x2 x3 x4 hd
  unfold n_X0_move at hd
  refine g_aload C dX0_move_0 4 rfl ?_
  refine g_iconst (v := 0) C dX0_move_2 (by decide) ?_
  refine g_aload_n C dX0_move_3 rfl 0 rfl ?_
  refine g_iload_n C dX0_move_4 rfl 1 rfl ?_
  refine g_iload_n C dX0_move_5 rfl 2 rfl ?_
  refine g_iload_n C dX0_move_6 rfl 3 rfl ?_
  obtain ⟨hg, hd⟩ := gd_some hd
  rcases cbn_some hd with ⟨E9, S1, hc, hd⟩ | ⟨v2, S1, hc, hd⟩
  · refine g_cV_x (n := 3) C (gk_X1).1 q1276 q1277 q1278 q95 q1279 (by decide +kernel) (by decide) (by decide) dX0_move_7 (As := [vI x1, vI x2, vI x3]) (rest := [vI (0 : Int32), vR x4]) rfl rfl (Nat.le_of_ble_eq_true rfl) hg (m_X1_move E hc) ?_
    by_cases hE : E9 = "java/lang/IndexOutOfBoundsException"
    · rw [if_pos hE] at hd; subst hE
      refine g_catch C [] ⟨0, 12, 15, 13⟩ [⟨0, 12, 19, 15⟩, ⟨0, 12, 23, 17⟩] rfl (fun z hz => nomatch hz) rfl (by decide) q1100 q474 fun q9 => ?_
      refine g_astore (L' := [(5, vR (some q9)), (0, vR x0), (1, vI x1), (2, vI x2), (3, vI x3), (4, vR x4)]) C dX0_move_15 (by decide) rfl ?_
      refine g_iconst (v := 1) C dX0_move_17 (by decide) ?_
      exact g_iret C Q hd dX0_move_18
    · rw [if_neg hE] at hd
      by_cases hE : E9 = "java/lang/IllegalArgumentException"
      · rw [if_pos hE] at hd; subst hE
        refine g_catch C [⟨0, 12, 15, 13⟩] ⟨0, 12, 19, 15⟩ [⟨0, 12, 23, 17⟩] rfl (by simp only [List.forall_mem_cons]; exact ⟨Or.inr ⟨by decide, _, q1100, fun lv => (C lv).hk.2.2.2.2.2.2.2.2.1⟩, fun _ h => nomatch h⟩) rfl (by decide) q1116 q722 fun q9 => ?_
        refine g_astore (L' := [(5, vR (some q9)), (0, vR x0), (1, vI x1), (2, vI x2), (3, vI x3), (4, vR x4)]) C dX0_move_19 (by decide) rfl ?_
        refine g_iconst (v := 2) C dX0_move_21 (by decide) ?_
        exact g_iret C Q hd dX0_move_22
      · rw [if_neg hE] at hd
        by_cases hE : E9 = "java/lang/IllegalStateException"
        · rw [if_pos hE] at hd; subst hE
          refine g_catch C [⟨0, 12, 15, 13⟩, ⟨0, 12, 19, 15⟩] ⟨0, 12, 23, 17⟩ [] rfl (by simp only [List.forall_mem_cons]; exact ⟨Or.inr ⟨by decide, _, q1100, fun lv => (C lv).hk.2.2.2.2.2.2.2.2.2.1⟩, Or.inr ⟨by decide, _, q1116, fun lv => (C lv).hk.2.2.2.2.2.2.2.2.2.2⟩, fun _ h => nomatch h⟩) rfl (by decide) q1117 q1167 fun q9 => ?_
          refine g_astore (L' := [(5, vR (some q9)), (0, vR x0), (1, vI x1), (2, vI x2), (3, vI x3), (4, vR x4)]) C dX0_move_23 (by decide) rfl ?_
          refine g_iconst (v := 3) C dX0_move_25 (by decide) ?_
          exact g_iret C Q hd dX0_move_26
        · rw [if_neg hE] at hd
          cases hd
  refine g_cV_v (n := 3) C (gk_X1).1 q1276 q1277 q1278 q95 q1279 (by decide +kernel) (by decide) (by decide) dX0_move_7 (As := [vI x1, vI x2, vI x3]) (rest := [vI (0 : Int32), vR x4]) rfl rfl (Nat.le_of_ble_eq_true rfl) hg (m_X1_move E hc) ?_
  refine g_i2l C dX0_move_10 ?_
  obtain ⟨S3, hS3, hd⟩ := Option.bind_eq_some_iff.mp hd
  refine g_last C dX0_move_11 hS3 ?_
  refine g_goto (tgt := 27) C dX0_move_12 (by decide) ?_
  refine g_iconst (v := 0) C dX0_move_27 (by decide) ?_
  exact g_iret C Q hd dX0_move_28
theorem m_X0_move {Γ : GG} {HI : St → Heap → Prop} {l : Launch} (E : EH Γ HI l) {S : St} {a0 : Option Nat} {a1 : Int32} {a2 : Int32} {a3 : Int32} {a4 : Option Nat} {r : Int32} {S1 : St} (h : n_X0_move S a0 a1 a2 a3 a4 = some (r, S1)) : MSW Γ HI l yX0_move cX0_move 6 (some (Jvm.ClassFile.FieldType.int)) [(0, 12, 15, 13), (0, 12, 19, 15), (0, 12, 23, 17)] 11 S [vR a0, vI a1, vI a2, vI a3, vR a4] (.inl (some (vI r))) S1 := by
  refine MSW_of E.ntr E.hx (by decide +kernel) rfl (Nat.le_of_ble_eq_true rfl) fun K e1 e2 e3 e4 hnm C Q => ?_
  subst e1; subst e2; subst e3
  exact w_X0_move_b0m C E Q S a0 a1 a2 a3 a4 h

def n_X0_remove (S : St) (x0 : Option Nat) (x1 : Int32) (x2 : Option Nat) : Option (Int32 × St) :=
  gd (grc S x0 0) <|
  cbn (n_X1_remove S x0 x1) (fun E9 S1 => if E9 = "java/lang/IndexOutOfBoundsException" then rtI id (Jvm.ClassFile.FieldType.int) (1 : Int32) S1 else none) fun v2 S1 =>
  (sL S1 x2 (0 : Int32) (v2.toInt64)).bind fun S3 =>
  rtI id (Jvm.ClassFile.FieldType.int) (0 : Int32) S3
theorem w_X0_remove_b0m {K : KT} {r : Int32} {S1 : St} (C : GC K RX0 cX0_remove 4 10 (g_tab [(0, 9, 12, 13)])) (E : EH (kΓ K) (kHI K) (kl K)) (Q : GQ K (some (Jvm.ClassFile.FieldType.int)) (.inl (some (vI r))) S1) : ∀ (S : St) (x0 : Option Nat) (x1 : Int32) (x2 : Option Nat), n_X0_remove S x0 x1 x2 = some (r, S1) → G K 4 S 0 [(0, vR x0), (1, vI x1), (2, vR x2)] [] := by
  intro S x0 x1 x2 hd
  unfold n_X0_remove at hd
  refine g_aload_n C dX0_remove_0 rfl 2 rfl ?_
  refine g_iconst (v := 0) C dX0_remove_1 (by decide) ?_
  refine g_aload_n C dX0_remove_2 rfl 0 rfl ?_
  refine g_iload_n C dX0_remove_3 rfl 1 rfl ?_
  obtain ⟨hg, hd⟩ := gd_some hd
  rcases cbn_some hd with ⟨E9, S1, hc, hd⟩ | ⟨v2, S1, hc, hd⟩
  · refine g_cV_x (n := 1) C (gk_X1).1 q1294 q1295 q1296 q95 q1297 (by decide +kernel) (by decide) (by decide) dX0_remove_4 (As := [vI x1]) (rest := [vI (0 : Int32), vR x2]) rfl rfl (Nat.le_of_ble_eq_true rfl) hg (m_X1_remove E hc) ?_
    by_cases hE : E9 = "java/lang/IndexOutOfBoundsException"
    · rw [if_pos hE] at hd; subst hE
      refine g_catch C [] ⟨0, 9, 12, 13⟩ [] rfl (fun z hz => nomatch hz) rfl (by decide) q1100 q474 fun q9 => ?_
      refine g_astore_n (L' := [(3, vR (some q9)), (0, vR x0), (1, vI x1), (2, vR x2)]) C dX0_remove_12 rfl (by decide) rfl ?_
      refine g_iconst (v := 1) C dX0_remove_13 (by decide) ?_
      exact g_iret C Q hd dX0_remove_14
    · rw [if_neg hE] at hd
      cases hd
  refine g_cV_v (n := 1) C (gk_X1).1 q1294 q1295 q1296 q95 q1297 (by decide +kernel) (by decide) (by decide) dX0_remove_4 (As := [vI x1]) (rest := [vI (0 : Int32), vR x2]) rfl rfl (Nat.le_of_ble_eq_true rfl) hg (m_X1_remove E hc) ?_
  refine g_i2l C dX0_remove_7 ?_
  obtain ⟨S3, hS3, hd⟩ := Option.bind_eq_some_iff.mp hd
  refine g_last C dX0_remove_8 hS3 ?_
  refine g_goto (tgt := 15) C dX0_remove_9 (by decide) ?_
  refine g_iconst (v := 0) C dX0_remove_15 (by decide) ?_
  exact g_iret C Q hd dX0_remove_16
theorem m_X0_remove {Γ : GG} {HI : St → Heap → Prop} {l : Launch} (E : EH Γ HI l) {S : St} {a0 : Option Nat} {a1 : Int32} {a2 : Option Nat} {r : Int32} {S1 : St} (h : n_X0_remove S a0 a1 a2 = some (r, S1)) : MSW Γ HI l yX0_remove cX0_remove 4 (some (Jvm.ClassFile.FieldType.int)) [(0, 9, 12, 13)] 10 S [vR a0, vI a1, vR a2] (.inl (some (vI r))) S1 := by
  refine MSW_of E.ntr E.hx (by decide +kernel) rfl (Nat.le_of_ble_eq_true rfl) fun K e1 e2 e3 e4 hnm C Q => ?_
  subst e1; subst e2; subst e3
  exact w_X0_remove_b0m C E Q S a0 a1 a2 h

def n_X0_lock_b16 (S : St) (y0 : Int64) (y1 : Int32) (y2 : Option Nat) : Option (Int32 × St) :=
  (sL S y2 y1 y0).bind fun S1 =>
  rtI id (Jvm.ClassFile.FieldType.int) (0 : Int32) S1
def n_X0_lock (S : St) (x0 : Option Nat) (x1 : Int32) (x2 : Int32) (x3 : Option Nat) : Option (Int32 × St) :=
  gd (grc S x0 0) <|
  cbn (n_X1_lock S x0 x1 x2) (fun E9 S1 => if E9 = "java/lang/IndexOutOfBoundsException" then rtI id (Jvm.ClassFile.FieldType.int) (1 : Int32) S1 else none) fun v2 S1 =>
  if v2 = 0 then
    n_X0_lock_b16 S1 (0 : Int64) (0 : Int32) x3
  else
    n_X0_lock_b16 S1 (1 : Int64) (0 : Int32) x3
theorem w_X0_lock_b16 {K : KT} {r : Int32} {S1 : St} (C : GC K RX0 cX0_lock 5 11 (g_tab [(0, 17, 20, 13)])) (E : EH (kΓ K) (kHI K) (kl K)) (Q : GQ K (some (Jvm.ClassFile.FieldType.int)) (.inl (some (vI r))) S1) : ∀ (S : St) (y0 : Int64) (y1 : Int32) (y2 : Option Nat), n_X0_lock_b16 S y0 y1 y2 = some (r, S1) → G K 5 S 16 [] [vL y0, vI y1, vR y2] := by
  intro S y0 y1 y2 hd
  unfold n_X0_lock_b16 at hd
  obtain ⟨S1, hS1, hd⟩ := Option.bind_eq_some_iff.mp hd
  refine g_last C dX0_lock_16 hS1 ?_
  refine g_goto (tgt := 24) C dX0_lock_17 (by decide) ?_
  refine g_iconst (v := 0) C dX0_lock_24 (by decide) ?_
  exact g_iret C Q hd dX0_lock_25
theorem w_X0_lock_b0m {K : KT} {r : Int32} {S1 : St} (C : GC K RX0 cX0_lock 5 11 (g_tab [(0, 17, 20, 13)])) (E : EH (kΓ K) (kHI K) (kl K)) (Q : GQ K (some (Jvm.ClassFile.FieldType.int)) (.inl (some (vI r))) S1) : ∀ (S : St) (x0 : Option Nat) (x1 : Int32) (x2 : Int32) (x3 : Option Nat), n_X0_lock S x0 x1 x2 x3 = some (r, S1) → G K 5 S 0 [(0, vR x0), (1, vI x1), (2, vI x2), (3, vR x3)] [] := by
  intro S x0 x1 x2 x3 hd
  unfold n_X0_lock at hd
  refine g_aload_n C dX0_lock_0 rfl 3 rfl ?_
  refine g_iconst (v := 0) C dX0_lock_1 (by decide) ?_
  refine g_aload_n C dX0_lock_2 rfl 0 rfl ?_
  refine g_iload_n C dX0_lock_3 rfl 1 rfl ?_
  refine g_iload_n C dX0_lock_4 rfl 2 rfl ?_
  obtain ⟨hg, hd⟩ := gd_some hd
  rcases cbn_some hd with ⟨E9, S1, hc, hd⟩ | ⟨v2, S1, hc, hd⟩
  · refine g_cV_x (n := 2) C (gk_X1).1 q1395 q1396 q1397 q95 q1398 (by decide +kernel) (by decide) (by decide) dX0_lock_5 (As := [vI x1, vI x2]) (rest := [vI (0 : Int32), vR x3]) rfl rfl (Nat.le_of_ble_eq_true rfl) hg (m_X1_lock E hc) ?_
    by_cases hE : E9 = "java/lang/IndexOutOfBoundsException"
    · rw [if_pos hE] at hd; subst hE
      refine g_catch C [] ⟨0, 17, 20, 13⟩ [] rfl (fun z hz => nomatch hz) rfl (by decide) q1100 q474 fun q9 => ?_
      refine g_astore (L' := [(4, vR (some q9)), (0, vR x0), (1, vI x1), (2, vI x2), (3, vR x3)]) C dX0_lock_20 (by decide) rfl ?_
      refine g_iconst (v := 1) C dX0_lock_22 (by decide) ?_
      exact g_iret C Q hd dX0_lock_23
    · rw [if_neg hE] at hd
      cases hd
  refine g_cV_v (n := 2) C (gk_X1).1 q1395 q1396 q1397 q95 q1398 (by decide +kernel) (by decide) (by decide) dX0_lock_5 (As := [vI x1, vI x2]) (rest := [vI (0 : Int32), vR x3]) rfl rfl (Nat.le_of_ble_eq_true rfl) hg (m_X1_lock E hc) ?_
  refine g_if_eq (tgt := 15) C dX0_lock_8 (by decide) hd (fun hd => ?_) (fun hd => ?_)
  · refine g_lconst (v := 0) C dX0_lock_15 (by decide) ?_
    refine g_sub [] rfl ?_
    exact w_X0_lock_b16 C E Q _ _ _ _ hd
  · refine g_lconst (v := 1) C dX0_lock_11 (by decide) ?_
    refine g_goto (tgt := 16) C dX0_lock_12 (by decide) ?_
    refine g_sub [] rfl ?_
    exact w_X0_lock_b16 C E Q _ _ _ _ hd
theorem m_X0_lock {Γ : GG} {HI : St → Heap → Prop} {l : Launch} (E : EH Γ HI l) {S : St} {a0 : Option Nat} {a1 : Int32} {a2 : Int32} {a3 : Option Nat} {r : Int32} {S1 : St} (h : n_X0_lock S a0 a1 a2 a3 = some (r, S1)) : MSW Γ HI l yX0_lock cX0_lock 5 (some (Jvm.ClassFile.FieldType.int)) [(0, 17, 20, 13)] 11 S [vR a0, vI a1, vI a2, vR a3] (.inl (some (vI r))) S1 := by
  refine MSW_of E.ntr E.hx (by decide +kernel) rfl (Nat.le_of_ble_eq_true rfl) fun K e1 e2 e3 e4 hnm C Q => ?_
  subst e1; subst e2; subst e3
  exact w_X0_lock_b0m C E Q S a0 a1 a2 a3 h

def n_X0_people (S : St) (x0 : Option Nat) (x1 : Int32) (x2 : Int32) (x3 : Option Nat) : Option (Int32 × St) :=
  gd (grc S x0 0) <|
  cbn (n_X1_people S x0 x1 x2) (fun E9 S1 => if E9 = "java/lang/IndexOutOfBoundsException" then rtI id (Jvm.ClassFile.FieldType.int) (1 : Int32) S1 else if E9 = "java/lang/IllegalArgumentException" then rtI id (Jvm.ClassFile.FieldType.int) (2 : Int32) S1 else none) fun v2 S1 =>
  (sL S1 x3 (0 : Int32) (v2.toInt64)).bind fun S3 =>
  rtI id (Jvm.ClassFile.FieldType.int) (0 : Int32) S3
theorem w_X0_people_b0m {K : KT} {r : Int32} {S1 : St} (C : GC K RX0 cX0_people 5 10 (g_tab [(0, 10, 13, 13), (0, 10, 17, 15)])) (E : EH (kΓ K) (kHI K) (kl K)) (Q : GQ K (some (Jvm.ClassFile.FieldType.int)) (.inl (some (vI r))) S1) : ∀ (S : St) (x0 : Option Nat) (x1 : Int32) (x2 : Int32) (x3 : Option Nat), n_X0_people S x0 x1 x2 x3 = some (r, S1) → G K 5 S 0 [(0, vR x0), (1, vI x1), (2, vI x2), (3, vR x3)] [] := by
  intro S x0 x1 x2 x3 hd
  unfold n_X0_people at hd
  refine g_aload_n C dX0_people_0 rfl 3 rfl ?_
  refine g_iconst (v := 0) C dX0_people_1 (by decide) ?_
  refine g_aload_n C dX0_people_2 rfl 0 rfl ?_
  refine g_iload_n C dX0_people_3 rfl 1 rfl ?_
  refine g_iload_n C dX0_people_4 rfl 2 rfl ?_
  obtain ⟨hg, hd⟩ := gd_some hd
  rcases cbn_some hd with ⟨E9, S1, hc, hd⟩ | ⟨v2, S1, hc, hd⟩
  · refine g_cV_x (n := 2) C (gk_X1).1 q1402 q1403 q1404 q95 q1405 (by decide +kernel) (by decide) (by decide) dX0_people_5 (As := [vI x1, vI x2]) (rest := [vI (0 : Int32), vR x3]) rfl rfl (Nat.le_of_ble_eq_true rfl) hg (m_X1_people E hc) ?_
    by_cases hE : E9 = "java/lang/IndexOutOfBoundsException"
    · rw [if_pos hE] at hd; subst hE
      refine g_catch C [] ⟨0, 10, 13, 13⟩ [⟨0, 10, 17, 15⟩] rfl (fun z hz => nomatch hz) rfl (by decide) q1100 q474 fun q9 => ?_
      refine g_astore (L' := [(4, vR (some q9)), (0, vR x0), (1, vI x1), (2, vI x2), (3, vR x3)]) C dX0_people_13 (by decide) rfl ?_
      refine g_iconst (v := 1) C dX0_people_15 (by decide) ?_
      exact g_iret C Q hd dX0_people_16
    · rw [if_neg hE] at hd
      by_cases hE : E9 = "java/lang/IllegalArgumentException"
      · rw [if_pos hE] at hd; subst hE
        refine g_catch C [⟨0, 10, 13, 13⟩] ⟨0, 10, 17, 15⟩ [] rfl (by simp only [List.forall_mem_cons]; exact ⟨Or.inr ⟨by decide, _, q1100, fun lv => (C lv).hk.2.2.2.2.2.2.2.2.1⟩, fun _ h => nomatch h⟩) rfl (by decide) q1116 q722 fun q9 => ?_
        refine g_astore (L' := [(4, vR (some q9)), (0, vR x0), (1, vI x1), (2, vI x2), (3, vR x3)]) C dX0_people_17 (by decide) rfl ?_
        refine g_iconst (v := 2) C dX0_people_19 (by decide) ?_
        exact g_iret C Q hd dX0_people_20
      · rw [if_neg hE] at hd
        cases hd
  refine g_cV_v (n := 2) C (gk_X1).1 q1402 q1403 q1404 q95 q1405 (by decide +kernel) (by decide) (by decide) dX0_people_5 (As := [vI x1, vI x2]) (rest := [vI (0 : Int32), vR x3]) rfl rfl (Nat.le_of_ble_eq_true rfl) hg (m_X1_people E hc) ?_
  refine g_i2l C dX0_people_8 ?_
  obtain ⟨S3, hS3, hd⟩ := Option.bind_eq_some_iff.mp hd
  refine g_last C dX0_people_9 hS3 ?_
  refine g_goto (tgt := 21) C dX0_people_10 (by decide) ?_
  refine g_iconst (v := 0) C dX0_people_21 (by decide) ?_
  exact g_iret C Q hd dX0_people_22
theorem m_X0_people {Γ : GG} {HI : St → Heap → Prop} {l : Launch} (E : EH Γ HI l) {S : St} {a0 : Option Nat} {a1 : Int32} {a2 : Int32} {a3 : Option Nat} {r : Int32} {S1 : St} (h : n_X0_people S a0 a1 a2 a3 = some (r, S1)) : MSW Γ HI l yX0_people cX0_people 5 (some (Jvm.ClassFile.FieldType.int)) [(0, 10, 13, 13), (0, 10, 17, 15)] 10 S [vR a0, vI a1, vI a2, vR a3] (.inl (some (vI r))) S1 := by
  refine MSW_of E.ntr E.hx (by decide +kernel) rfl (Nat.le_of_ble_eq_true rfl) fun K e1 e2 e3 e4 hnm C Q => ?_
  subst e1; subst e2; subst e3
  exact w_X0_people_b0m C E Q S a0 a1 a2 a3 h

def n_X0_mayRead_b16 (S : St) (y0 : Int64) (y1 : Int32) (y2 : Option Nat) : Option (Int32 × St) :=
  (sL S y2 y1 y0).bind fun S1 =>
  rtI id (Jvm.ClassFile.FieldType.int) (0 : Int32) S1
def n_X0_mayRead (S : St) (x0 : Option Nat) (x1 : Int32) (x2 : Int32) (x3 : Option Nat) : Option (Int32 × St) :=
  gd (grc S x0 0) <|
  cbn (n_X1_mayRead S x0 x1 x2) (fun E9 S1 => if E9 = "java/lang/IndexOutOfBoundsException" then rtI id (Jvm.ClassFile.FieldType.int) (1 : Int32) S1 else none) fun v2 S1 =>
  if v2 = 0 then
    n_X0_mayRead_b16 S1 (0 : Int64) (0 : Int32) x3
  else
    n_X0_mayRead_b16 S1 (1 : Int64) (0 : Int32) x3
theorem w_X0_mayRead_b16 {K : KT} {r : Int32} {S1 : St} (C : GC K RX0 cX0_mayRead 5 11 (g_tab [(0, 17, 20, 13)])) (E : EH (kΓ K) (kHI K) (kl K)) (Q : GQ K (some (Jvm.ClassFile.FieldType.int)) (.inl (some (vI r))) S1) : ∀ (S : St) (y0 : Int64) (y1 : Int32) (y2 : Option Nat), n_X0_mayRead_b16 S y0 y1 y2 = some (r, S1) → G K 5 S 16 [] [vL y0, vI y1, vR y2] := by
  intro S y0 y1 y2 hd
  unfold n_X0_mayRead_b16 at hd
  obtain ⟨S1, hS1, hd⟩ := Option.bind_eq_some_iff.mp hd
  refine g_last C dX0_mayRead_16 hS1 ?_
  refine g_goto (tgt := 24) C dX0_mayRead_17 (by decide) ?_
  refine g_iconst (v := 0) C dX0_mayRead_24 (by decide) ?_
  exact g_iret C Q hd dX0_mayRead_25
theorem w_X0_mayRead_b0m {K : KT} {r : Int32} {S1 : St} (C : GC K RX0 cX0_mayRead 5 11 (g_tab [(0, 17, 20, 13)])) (E : EH (kΓ K) (kHI K) (kl K)) (Q : GQ K (some (Jvm.ClassFile.FieldType.int)) (.inl (some (vI r))) S1) : ∀ (S : St) (x0 : Option Nat) (x1 : Int32) (x2 : Int32) (x3 : Option Nat), n_X0_mayRead S x0 x1 x2 x3 = some (r, S1) → G K 5 S 0 [(0, vR x0), (1, vI x1), (2, vI x2), (3, vR x3)] [] := by
  intro S x0 x1 x2 x3 hd
  unfold n_X0_mayRead at hd
  refine g_aload_n C dX0_mayRead_0 rfl 3 rfl ?_
  refine g_iconst (v := 0) C dX0_mayRead_1 (by decide) ?_
  refine g_aload_n C dX0_mayRead_2 rfl 0 rfl ?_
  refine g_iload_n C dX0_mayRead_3 rfl 1 rfl ?_
  refine g_iload_n C dX0_mayRead_4 rfl 2 rfl ?_
  obtain ⟨hg, hd⟩ := gd_some hd
  rcases cbn_some hd with ⟨E9, S1, hc, hd⟩ | ⟨v2, S1, hc, hd⟩
  · refine g_cV_x (n := 2) C (gk_X1).1 q1409 q1410 q1411 q95 q1412 (by decide +kernel) (by decide) (by decide) dX0_mayRead_5 (As := [vI x1, vI x2]) (rest := [vI (0 : Int32), vR x3]) rfl rfl (Nat.le_of_ble_eq_true rfl) hg (m_X1_mayRead E hc) ?_
    by_cases hE : E9 = "java/lang/IndexOutOfBoundsException"
    · rw [if_pos hE] at hd; subst hE
      refine g_catch C [] ⟨0, 17, 20, 13⟩ [] rfl (fun z hz => nomatch hz) rfl (by decide) q1100 q474 fun q9 => ?_
      refine g_astore (L' := [(4, vR (some q9)), (0, vR x0), (1, vI x1), (2, vI x2), (3, vR x3)]) C dX0_mayRead_20 (by decide) rfl ?_
      refine g_iconst (v := 1) C dX0_mayRead_22 (by decide) ?_
      exact g_iret C Q hd dX0_mayRead_23
    · rw [if_neg hE] at hd
      cases hd
  refine g_cV_v (n := 2) C (gk_X1).1 q1409 q1410 q1411 q95 q1412 (by decide +kernel) (by decide) (by decide) dX0_mayRead_5 (As := [vI x1, vI x2]) (rest := [vI (0 : Int32), vR x3]) rfl rfl (Nat.le_of_ble_eq_true rfl) hg (m_X1_mayRead E hc) ?_
  refine g_if_eq (tgt := 15) C dX0_mayRead_8 (by decide) hd (fun hd => ?_) (fun hd => ?_)
  · refine g_lconst (v := 0) C dX0_mayRead_15 (by decide) ?_
    refine g_sub [] rfl ?_
    exact w_X0_mayRead_b16 C E Q _ _ _ _ hd
  · refine g_lconst (v := 1) C dX0_mayRead_11 (by decide) ?_
    refine g_goto (tgt := 16) C dX0_mayRead_12 (by decide) ?_
    refine g_sub [] rfl ?_
    exact w_X0_mayRead_b16 C E Q _ _ _ _ hd
theorem m_X0_mayRead {Γ : GG} {HI : St → Heap → Prop} {l : Launch} (E : EH Γ HI l) {S : St} {a0 : Option Nat} {a1 : Int32} {a2 : Int32} {a3 : Option Nat} {r : Int32} {S1 : St} (h : n_X0_mayRead S a0 a1 a2 a3 = some (r, S1)) : MSW Γ HI l yX0_mayRead cX0_mayRead 5 (some (Jvm.ClassFile.FieldType.int)) [(0, 17, 20, 13)] 11 S [vR a0, vI a1, vI a2, vR a3] (.inl (some (vI r))) S1 := by
  refine MSW_of E.ntr E.hx (by decide +kernel) rfl (Nat.le_of_ble_eq_true rfl) fun K e1 e2 e3 e4 hnm C Q => ?_
  subst e1; subst e2; subst e3
  exact w_X0_mayRead_b0m C E Q S a0 a1 a2 a3 h

def n_X0_watch (S : St) (x0 : Option Nat) (x1 : Int32) (x2 : Option Nat) : Option (Int32 × St) :=
  gd (grc S x0 0) <|
  cbn (n_X1_watch S x0 x1) (fun E9 S1 => if E9 = "java/lang/IndexOutOfBoundsException" then rtI id (Jvm.ClassFile.FieldType.int) (1 : Int32) S1 else if E9 = "java/lang/IllegalStateException" then rtI id (Jvm.ClassFile.FieldType.int) (2 : Int32) S1 else none) fun v2 S1 =>
  (sL S1 x2 (0 : Int32) (v2.toInt64)).bind fun S3 =>
  rtI id (Jvm.ClassFile.FieldType.int) (0 : Int32) S3
theorem w_X0_watch_b0m {K : KT} {r : Int32} {S1 : St} (C : GC K RX0 cX0_watch 4 11 (g_tab [(0, 9, 12, 13), (0, 9, 15, 17)])) (E : EH (kΓ K) (kHI K) (kl K)) (Q : GQ K (some (Jvm.ClassFile.FieldType.int)) (.inl (some (vI r))) S1) : ∀ (S : St) (x0 : Option Nat) (x1 : Int32) (x2 : Option Nat), n_X0_watch S x0 x1 x2 = some (r, S1) → G K 4 S 0 [(0, vR x0), (1, vI x1), (2, vR x2)] [] := by
  intro S x0 x1 x2 hd
  unfold n_X0_watch at hd
  refine g_aload_n C dX0_watch_0 rfl 2 rfl ?_
  refine g_iconst (v := 0) C dX0_watch_1 (by decide) ?_
  refine g_aload_n C dX0_watch_2 rfl 0 rfl ?_
  refine g_iload_n C dX0_watch_3 rfl 1 rfl ?_
  obtain ⟨hg, hd⟩ := gd_some hd
  rcases cbn_some hd with ⟨E9, S1, hc, hd⟩ | ⟨v2, S1, hc, hd⟩
  · refine g_cV_x (n := 1) C (gk_X1).1 q1423 q1424 q1425 q95 q1426 (by decide +kernel) (by decide) (by decide) dX0_watch_4 (As := [vI x1]) (rest := [vI (0 : Int32), vR x2]) rfl rfl (Nat.le_of_ble_eq_true rfl) hg (m_X1_watch E hc) ?_
    by_cases hE : E9 = "java/lang/IndexOutOfBoundsException"
    · rw [if_pos hE] at hd; subst hE
      refine g_catch C [] ⟨0, 9, 12, 13⟩ [⟨0, 9, 15, 17⟩] rfl (fun z hz => nomatch hz) rfl (by decide) q1100 q474 fun q9 => ?_
      refine g_astore_n (L' := [(3, vR (some q9)), (0, vR x0), (1, vI x1), (2, vR x2)]) C dX0_watch_12 rfl (by decide) rfl ?_
      refine g_iconst (v := 1) C dX0_watch_13 (by decide) ?_
      exact g_iret C Q hd dX0_watch_14
    · rw [if_neg hE] at hd
      by_cases hE : E9 = "java/lang/IllegalStateException"
      · rw [if_pos hE] at hd; subst hE
        refine g_catch C [⟨0, 9, 12, 13⟩] ⟨0, 9, 15, 17⟩ [] rfl (by simp only [List.forall_mem_cons]; exact ⟨Or.inr ⟨by decide, _, q1100, fun lv => (C lv).hk.2.2.2.2.2.2.2.2.2.1⟩, fun _ h => nomatch h⟩) rfl (by decide) q1117 q1167 fun q9 => ?_
        refine g_astore_n (L' := [(3, vR (some q9)), (0, vR x0), (1, vI x1), (2, vR x2)]) C dX0_watch_15 rfl (by decide) rfl ?_
        refine g_iconst (v := 2) C dX0_watch_16 (by decide) ?_
        exact g_iret C Q hd dX0_watch_17
      · rw [if_neg hE] at hd
        cases hd
  refine g_cV_v (n := 1) C (gk_X1).1 q1423 q1424 q1425 q95 q1426 (by decide +kernel) (by decide) (by decide) dX0_watch_4 (As := [vI x1]) (rest := [vI (0 : Int32), vR x2]) rfl rfl (Nat.le_of_ble_eq_true rfl) hg (m_X1_watch E hc) ?_
  refine g_i2l C dX0_watch_7 ?_
  obtain ⟨S3, hS3, hd⟩ := Option.bind_eq_some_iff.mp hd
  refine g_last C dX0_watch_8 hS3 ?_
  refine g_goto (tgt := 18) C dX0_watch_9 (by decide) ?_
  refine g_iconst (v := 0) C dX0_watch_18 (by decide) ?_
  exact g_iret C Q hd dX0_watch_19
theorem m_X0_watch {Γ : GG} {HI : St → Heap → Prop} {l : Launch} (E : EH Γ HI l) {S : St} {a0 : Option Nat} {a1 : Int32} {a2 : Option Nat} {r : Int32} {S1 : St} (h : n_X0_watch S a0 a1 a2 = some (r, S1)) : MSW Γ HI l yX0_watch cX0_watch 4 (some (Jvm.ClassFile.FieldType.int)) [(0, 9, 12, 13), (0, 9, 15, 17)] 11 S [vR a0, vI a1, vR a2] (.inl (some (vI r))) S1 := by
  refine MSW_of E.ntr E.hx (by decide +kernel) rfl (Nat.le_of_ble_eq_true rfl) fun K e1 e2 e3 e4 hnm C Q => ?_
  subst e1; subst e2; subst e3
  exact w_X0_watch_b0m C E Q S a0 a1 a2 h

def n_X0_notices (S : St) (x0 : Option Nat) (x1 : Int32) (x2 : Option Nat) : Option (Int32 × St) :=
  gd (grc S x0 0) <|
  cbn (n_X1_notices S x0 x1) (fun E9 S1 => if E9 = "java/lang/IndexOutOfBoundsException" then rtI id (Jvm.ClassFile.FieldType.int) (1 : Int32) S1 else none) fun v2 S1 =>
  (sL S1 x2 (0 : Int32) (v2.toInt64)).bind fun S3 =>
  rtI id (Jvm.ClassFile.FieldType.int) (0 : Int32) S3
theorem w_X0_notices_b0m {K : KT} {r : Int32} {S1 : St} (C : GC K RX0 cX0_notices 4 10 (g_tab [(0, 9, 12, 13)])) (E : EH (kΓ K) (kHI K) (kl K)) (Q : GQ K (some (Jvm.ClassFile.FieldType.int)) (.inl (some (vI r))) S1) : ∀ (S : St) (x0 : Option Nat) (x1 : Int32) (x2 : Option Nat), n_X0_notices S x0 x1 x2 = some (r, S1) → G K 4 S 0 [(0, vR x0), (1, vI x1), (2, vR x2)] [] := by
  intro S x0 x1 x2 hd
  unfold n_X0_notices at hd
  refine g_aload_n C dX0_notices_0 rfl 2 rfl ?_
  refine g_iconst (v := 0) C dX0_notices_1 (by decide) ?_
  refine g_aload_n C dX0_notices_2 rfl 0 rfl ?_
  refine g_iload_n C dX0_notices_3 rfl 1 rfl ?_
  obtain ⟨hg, hd⟩ := gd_some hd
  rcases cbn_some hd with ⟨E9, S1, hc, hd⟩ | ⟨v2, S1, hc, hd⟩
  · refine g_cV_x (n := 1) C (gk_X1).1 q1514 q1515 q1516 q95 q1517 (by decide +kernel) (by decide) (by decide) dX0_notices_4 (As := [vI x1]) (rest := [vI (0 : Int32), vR x2]) rfl rfl (Nat.le_of_ble_eq_true rfl) hg (m_X1_notices E hc) ?_
    by_cases hE : E9 = "java/lang/IndexOutOfBoundsException"
    · rw [if_pos hE] at hd; subst hE
      refine g_catch C [] ⟨0, 9, 12, 13⟩ [] rfl (fun z hz => nomatch hz) rfl (by decide) q1100 q474 fun q9 => ?_
      refine g_astore_n (L' := [(3, vR (some q9)), (0, vR x0), (1, vI x1), (2, vR x2)]) C dX0_notices_12 rfl (by decide) rfl ?_
      refine g_iconst (v := 1) C dX0_notices_13 (by decide) ?_
      exact g_iret C Q hd dX0_notices_14
    · rw [if_neg hE] at hd
      cases hd
  refine g_cV_v (n := 1) C (gk_X1).1 q1514 q1515 q1516 q95 q1517 (by decide +kernel) (by decide) (by decide) dX0_notices_4 (As := [vI x1]) (rest := [vI (0 : Int32), vR x2]) rfl rfl (Nat.le_of_ble_eq_true rfl) hg (m_X1_notices E hc) ?_
  refine g_i2l C dX0_notices_7 ?_
  obtain ⟨S3, hS3, hd⟩ := Option.bind_eq_some_iff.mp hd
  refine g_last C dX0_notices_8 hS3 ?_
  refine g_goto (tgt := 15) C dX0_notices_9 (by decide) ?_
  refine g_iconst (v := 0) C dX0_notices_15 (by decide) ?_
  exact g_iret C Q hd dX0_notices_16
theorem m_X0_notices {Γ : GG} {HI : St → Heap → Prop} {l : Launch} (E : EH Γ HI l) {S : St} {a0 : Option Nat} {a1 : Int32} {a2 : Option Nat} {r : Int32} {S1 : St} (h : n_X0_notices S a0 a1 a2 = some (r, S1)) : MSW Γ HI l yX0_notices cX0_notices 4 (some (Jvm.ClassFile.FieldType.int)) [(0, 9, 12, 13)] 10 S [vR a0, vI a1, vR a2] (.inl (some (vI r))) S1 := by
  refine MSW_of E.ntr E.hx (by decide +kernel) rfl (Nat.le_of_ble_eq_true rfl) fun K e1 e2 e3 e4 hnm C Q => ?_
  subst e1; subst e2; subst e3
  exact w_X0_notices_b0m C E Q S a0 a1 a2 h

def n_X0_twice (S : St) (x0 : Option Nat) (x1 : Int32) (x2 : Option Nat) : Option (Int32 × St) :=
  gd (grc S x0 0) <|
  cbn (n_X1_twice S x0 x1) (fun E9 S1 => if E9 = "java/lang/IndexOutOfBoundsException" then rtI id (Jvm.ClassFile.FieldType.int) (1 : Int32) S1 else if E9 = "java/lang/IllegalStateException" then rtI id (Jvm.ClassFile.FieldType.int) (2 : Int32) S1 else none) fun v2 S1 =>
  (sL S1 x2 (0 : Int32) (v2.toInt64)).bind fun S3 =>
  rtI id (Jvm.ClassFile.FieldType.int) (0 : Int32) S3
theorem w_X0_twice_b0m {K : KT} {r : Int32} {S1 : St} (C : GC K RX0 cX0_twice 4 11 (g_tab [(0, 9, 12, 13), (0, 9, 15, 17)])) (E : EH (kΓ K) (kHI K) (kl K)) (Q : GQ K (some (Jvm.ClassFile.FieldType.int)) (.inl (some (vI r))) S1) : ∀ (S : St) (x0 : Option Nat) (x1 : Int32) (x2 : Option Nat), n_X0_twice S x0 x1 x2 = some (r, S1) → G K 4 S 0 [(0, vR x0), (1, vI x1), (2, vR x2)] [] := by
  intro S x0 x1 x2 hd
  unfold n_X0_twice at hd
  refine g_aload_n C dX0_twice_0 rfl 2 rfl ?_
  refine g_iconst (v := 0) C dX0_twice_1 (by decide) ?_
  refine g_aload_n C dX0_twice_2 rfl 0 rfl ?_
  refine g_iload_n C dX0_twice_3 rfl 1 rfl ?_
  obtain ⟨hg, hd⟩ := gd_some hd
  rcases cbn_some hd with ⟨E9, S1, hc, hd⟩ | ⟨v2, S1, hc, hd⟩
  · refine g_cV_x (n := 1) C (gk_X1).1 q1525 q1526 q1527 q95 q1528 (by decide +kernel) (by decide) (by decide) dX0_twice_4 (As := [vI x1]) (rest := [vI (0 : Int32), vR x2]) rfl rfl (Nat.le_of_ble_eq_true rfl) hg (m_X1_twice E hc) ?_
    by_cases hE : E9 = "java/lang/IndexOutOfBoundsException"
    · rw [if_pos hE] at hd; subst hE
      refine g_catch C [] ⟨0, 9, 12, 13⟩ [⟨0, 9, 15, 17⟩] rfl (fun z hz => nomatch hz) rfl (by decide) q1100 q474 fun q9 => ?_
      refine g_astore_n (L' := [(3, vR (some q9)), (0, vR x0), (1, vI x1), (2, vR x2)]) C dX0_twice_12 rfl (by decide) rfl ?_
      refine g_iconst (v := 1) C dX0_twice_13 (by decide) ?_
      exact g_iret C Q hd dX0_twice_14
    · rw [if_neg hE] at hd
      by_cases hE : E9 = "java/lang/IllegalStateException"
      · rw [if_pos hE] at hd; subst hE
        refine g_catch C [⟨0, 9, 12, 13⟩] ⟨0, 9, 15, 17⟩ [] rfl (by simp only [List.forall_mem_cons]; exact ⟨Or.inr ⟨by decide, _, q1100, fun lv => (C lv).hk.2.2.2.2.2.2.2.2.2.1⟩, fun _ h => nomatch h⟩) rfl (by decide) q1117 q1167 fun q9 => ?_
        refine g_astore_n (L' := [(3, vR (some q9)), (0, vR x0), (1, vI x1), (2, vR x2)]) C dX0_twice_15 rfl (by decide) rfl ?_
        refine g_iconst (v := 2) C dX0_twice_16 (by decide) ?_
        exact g_iret C Q hd dX0_twice_17
      · rw [if_neg hE] at hd
        cases hd
  refine g_cV_v (n := 1) C (gk_X1).1 q1525 q1526 q1527 q95 q1528 (by decide +kernel) (by decide) (by decide) dX0_twice_4 (As := [vI x1]) (rest := [vI (0 : Int32), vR x2]) rfl rfl (Nat.le_of_ble_eq_true rfl) hg (m_X1_twice E hc) ?_
  refine g_i2l C dX0_twice_7 ?_
  obtain ⟨S3, hS3, hd⟩ := Option.bind_eq_some_iff.mp hd
  refine g_last C dX0_twice_8 hS3 ?_
  refine g_goto (tgt := 18) C dX0_twice_9 (by decide) ?_
  refine g_iconst (v := 0) C dX0_twice_18 (by decide) ?_
  exact g_iret C Q hd dX0_twice_19
theorem m_X0_twice {Γ : GG} {HI : St → Heap → Prop} {l : Launch} (E : EH Γ HI l) {S : St} {a0 : Option Nat} {a1 : Int32} {a2 : Option Nat} {r : Int32} {S1 : St} (h : n_X0_twice S a0 a1 a2 = some (r, S1)) : MSW Γ HI l yX0_twice cX0_twice 4 (some (Jvm.ClassFile.FieldType.int)) [(0, 9, 12, 13), (0, 9, 15, 17)] 11 S [vR a0, vI a1, vR a2] (.inl (some (vI r))) S1 := by
  refine MSW_of E.ntr E.hx (by decide +kernel) rfl (Nat.le_of_ble_eq_true rfl) fun K e1 e2 e3 e4 hnm C Q => ?_
  subst e1; subst e2; subst e3
  exact w_X0_twice_b0m C E Q S a0 a1 a2 h

def n_X0_lose (S : St) (x0 : Option Nat) (x1 : Int32) (x2 : Int32) (x3 : Option Nat) : Option (Int32 × St) :=
  gd (grc S x0 0) <|
  cbn (n_X1_lose S x0 x1 x2) (fun E9 S1 => if E9 = "java/lang/IndexOutOfBoundsException" then rtI id (Jvm.ClassFile.FieldType.int) (1 : Int32) S1 else if E9 = "java/lang/IllegalArgumentException" then rtI id (Jvm.ClassFile.FieldType.int) (2 : Int32) S1 else none) fun v2 S1 =>
  (sL S1 x3 (0 : Int32) (v2.toInt64)).bind fun S3 =>
  rtI id (Jvm.ClassFile.FieldType.int) (0 : Int32) S3
theorem w_X0_lose_b0m {K : KT} {r : Int32} {S1 : St} (C : GC K RX0 cX0_lose 5 10 (g_tab [(0, 10, 13, 13), (0, 10, 17, 15)])) (E : EH (kΓ K) (kHI K) (kl K)) (Q : GQ K (some (Jvm.ClassFile.FieldType.int)) (.inl (some (vI r))) S1) : ∀ (S : St) (x0 : Option Nat) (x1 : Int32) (x2 : Int32) (x3 : Option Nat), n_X0_lose S x0 x1 x2 x3 = some (r, S1) → G K 5 S 0 [(0, vR x0), (1, vI x1), (2, vI x2), (3, vR x3)] [] := by
  intro S x0 x1 x2 x3 hd
  unfold n_X0_lose at hd
  refine g_aload_n C dX0_lose_0 rfl 3 rfl ?_
  refine g_iconst (v := 0) C dX0_lose_1 (by decide) ?_
  refine g_aload_n C dX0_lose_2 rfl 0 rfl ?_
  refine g_iload_n C dX0_lose_3 rfl 1 rfl ?_
  refine g_iload_n C dX0_lose_4 rfl 2 rfl ?_
  obtain ⟨hg, hd⟩ := gd_some hd
  rcases cbn_some hd with ⟨E9, S1, hc, hd⟩ | ⟨v2, S1, hc, hd⟩
  · refine g_cV_x (n := 2) C (gk_X1).1 q1538 q1539 q1540 q95 q1541 (by decide +kernel) (by decide) (by decide) dX0_lose_5 (As := [vI x1, vI x2]) (rest := [vI (0 : Int32), vR x3]) rfl rfl (Nat.le_of_ble_eq_true rfl) hg (m_X1_lose E hc) ?_
    by_cases hE : E9 = "java/lang/IndexOutOfBoundsException"
    · rw [if_pos hE] at hd; subst hE
      refine g_catch C [] ⟨0, 10, 13, 13⟩ [⟨0, 10, 17, 15⟩] rfl (fun z hz => nomatch hz) rfl (by decide) q1100 q474 fun q9 => ?_
      refine g_astore (L' := [(4, vR (some q9)), (0, vR x0), (1, vI x1), (2, vI x2), (3, vR x3)]) C dX0_lose_13 (by decide) rfl ?_
      refine g_iconst (v := 1) C dX0_lose_15 (by decide) ?_
      exact g_iret C Q hd dX0_lose_16
    · rw [if_neg hE] at hd
      by_cases hE : E9 = "java/lang/IllegalArgumentException"
      · rw [if_pos hE] at hd; subst hE
        refine g_catch C [⟨0, 10, 13, 13⟩] ⟨0, 10, 17, 15⟩ [] rfl (by simp only [List.forall_mem_cons]; exact ⟨Or.inr ⟨by decide, _, q1100, fun lv => (C lv).hk.2.2.2.2.2.2.2.2.1⟩, fun _ h => nomatch h⟩) rfl (by decide) q1116 q722 fun q9 => ?_
        refine g_astore (L' := [(4, vR (some q9)), (0, vR x0), (1, vI x1), (2, vI x2), (3, vR x3)]) C dX0_lose_17 (by decide) rfl ?_
        refine g_iconst (v := 2) C dX0_lose_19 (by decide) ?_
        exact g_iret C Q hd dX0_lose_20
      · rw [if_neg hE] at hd
        cases hd
  refine g_cV_v (n := 2) C (gk_X1).1 q1538 q1539 q1540 q95 q1541 (by decide +kernel) (by decide) (by decide) dX0_lose_5 (As := [vI x1, vI x2]) (rest := [vI (0 : Int32), vR x3]) rfl rfl (Nat.le_of_ble_eq_true rfl) hg (m_X1_lose E hc) ?_
  refine g_i2l C dX0_lose_8 ?_
  obtain ⟨S3, hS3, hd⟩ := Option.bind_eq_some_iff.mp hd
  refine g_last C dX0_lose_9 hS3 ?_
  refine g_goto (tgt := 21) C dX0_lose_10 (by decide) ?_
  refine g_iconst (v := 0) C dX0_lose_21 (by decide) ?_
  exact g_iret C Q hd dX0_lose_22
theorem m_X0_lose {Γ : GG} {HI : St → Heap → Prop} {l : Launch} (E : EH Γ HI l) {S : St} {a0 : Option Nat} {a1 : Int32} {a2 : Int32} {a3 : Option Nat} {r : Int32} {S1 : St} (h : n_X0_lose S a0 a1 a2 a3 = some (r, S1)) : MSW Γ HI l yX0_lose cX0_lose 5 (some (Jvm.ClassFile.FieldType.int)) [(0, 10, 13, 13), (0, 10, 17, 15)] 10 S [vR a0, vI a1, vI a2, vR a3] (.inl (some (vI r))) S1 := by
  refine MSW_of E.ntr E.hx (by decide +kernel) rfl (Nat.le_of_ble_eq_true rfl) fun K e1 e2 e3 e4 hnm C Q => ?_
  subst e1; subst e2; subst e3
  exact w_X0_lose_b0m C E Q S a0 a1 a2 a3 h

def n_X0_pass (S : St) (x0 : Option Nat) (x1 : Int32) (x2 : Option Nat) : Option (Int32 × St) :=
  gd (grc S x0 0) <|
  cbn (n_X1_pass S x0 x1) (fun E9 S1 => if E9 = "java/lang/IllegalArgumentException" then rtI id (Jvm.ClassFile.FieldType.int) (1 : Int32) S1 else if E9 = "java/lang/IllegalStateException" then rtI id (Jvm.ClassFile.FieldType.int) (2 : Int32) S1 else none) fun v2 S1 =>
  (sL S1 x2 (0 : Int32) (v2.toInt64)).bind fun S3 =>
  rtI id (Jvm.ClassFile.FieldType.int) (0 : Int32) S3
theorem w_X0_pass_b0m {K : KT} {r : Int32} {S1 : St} (C : GC K RX0 cX0_pass 4 10 (g_tab [(0, 9, 12, 15), (0, 9, 15, 17)])) (E : EH (kΓ K) (kHI K) (kl K)) (Q : GQ K (some (Jvm.ClassFile.FieldType.int)) (.inl (some (vI r))) S1) : ∀ (S : St) (x0 : Option Nat) (x1 : Int32) (x2 : Option Nat), n_X0_pass S x0 x1 x2 = some (r, S1) → G K 4 S 0 [(0, vR x0), (1, vI x1), (2, vR x2)] [] := by
  intro S x0 x1 x2 hd
  unfold n_X0_pass at hd
  refine g_aload_n C dX0_pass_0 rfl 2 rfl ?_
  refine g_iconst (v := 0) C dX0_pass_1 (by decide) ?_
  refine g_aload_n C dX0_pass_2 rfl 0 rfl ?_
  refine g_iload_n C dX0_pass_3 rfl 1 rfl ?_
  obtain ⟨hg, hd⟩ := gd_some hd
  rcases cbn_some hd with ⟨E9, S1, hc, hd⟩ | ⟨v2, S1, hc, hd⟩
  · refine g_cV_x (n := 1) C (gk_X1).1 q1553 q1554 q1555 q95 q1556 (by decide +kernel) (by decide) (by decide) dX0_pass_4 (As := [vI x1]) (rest := [vI (0 : Int32), vR x2]) rfl rfl (Nat.le_of_ble_eq_true rfl) hg (m_X1_pass E hc) ?_
    by_cases hE : E9 = "java/lang/IllegalArgumentException"
    · rw [if_pos hE] at hd; subst hE
      refine g_catch C [] ⟨0, 9, 12, 15⟩ [⟨0, 9, 15, 17⟩] rfl (fun z hz => nomatch hz) rfl (by decide) q1116 q722 fun q9 => ?_
      refine g_astore_n (L' := [(3, vR (some q9)), (0, vR x0), (1, vI x1), (2, vR x2)]) C dX0_pass_12 rfl (by decide) rfl ?_
      refine g_iconst (v := 1) C dX0_pass_13 (by decide) ?_
      exact g_iret C Q hd dX0_pass_14
    · rw [if_neg hE] at hd
      by_cases hE : E9 = "java/lang/IllegalStateException"
      · rw [if_pos hE] at hd; subst hE
        refine g_catch C [⟨0, 9, 12, 15⟩] ⟨0, 9, 15, 17⟩ [] rfl (by simp only [List.forall_mem_cons]; exact ⟨Or.inr ⟨by decide, _, q1116, fun lv => (C lv).hk.2.2.2.2.2.2.2.2.2.2⟩, fun _ h => nomatch h⟩) rfl (by decide) q1117 q1167 fun q9 => ?_
        refine g_astore_n (L' := [(3, vR (some q9)), (0, vR x0), (1, vI x1), (2, vR x2)]) C dX0_pass_15 rfl (by decide) rfl ?_
        refine g_iconst (v := 2) C dX0_pass_16 (by decide) ?_
        exact g_iret C Q hd dX0_pass_17
      · rw [if_neg hE] at hd
        cases hd
  refine g_cV_v (n := 1) C (gk_X1).1 q1553 q1554 q1555 q95 q1556 (by decide +kernel) (by decide) (by decide) dX0_pass_4 (As := [vI x1]) (rest := [vI (0 : Int32), vR x2]) rfl rfl (Nat.le_of_ble_eq_true rfl) hg (m_X1_pass E hc) ?_
  refine g_i2l C dX0_pass_7 ?_
  obtain ⟨S3, hS3, hd⟩ := Option.bind_eq_some_iff.mp hd
  refine g_last C dX0_pass_8 hS3 ?_
  refine g_goto (tgt := 18) C dX0_pass_9 (by decide) ?_
  refine g_iconst (v := 0) C dX0_pass_18 (by decide) ?_
  exact g_iret C Q hd dX0_pass_19
theorem m_X0_pass {Γ : GG} {HI : St → Heap → Prop} {l : Launch} (E : EH Γ HI l) {S : St} {a0 : Option Nat} {a1 : Int32} {a2 : Option Nat} {r : Int32} {S1 : St} (h : n_X0_pass S a0 a1 a2 = some (r, S1)) : MSW Γ HI l yX0_pass cX0_pass 4 (some (Jvm.ClassFile.FieldType.int)) [(0, 9, 12, 15), (0, 9, 15, 17)] 10 S [vR a0, vI a1, vR a2] (.inl (some (vI r))) S1 := by
  refine MSW_of E.ntr E.hx (by decide +kernel) rfl (Nat.le_of_ble_eq_true rfl) fun K e1 e2 e3 e4 hnm C Q => ?_
  subst e1; subst e2; subst e3
  exact w_X0_pass_b0m C E Q S a0 a1 a2 h

def n_X0_limits (S : St) (x0 : Option Nat) (x1 : Int32) (x2 : Int32) (x3 : Option Nat) : Option (Int32 × St) :=
  gd (grc S x0 0) <|
  cbn (n_X1_limits S x0 x1 x2) (fun E9 S1 => if E9 = "java/lang/IllegalArgumentException" then rtI id (Jvm.ClassFile.FieldType.int) (1 : Int32) S1 else none) fun v2 S1 =>
  (sL S1 x3 (0 : Int32) (v2.toInt64)).bind fun S3 =>
  rtI id (Jvm.ClassFile.FieldType.int) (0 : Int32) S3
theorem w_X0_limits_b0m {K : KT} {r : Int32} {S1 : St} (C : GC K RX0 cX0_limits 5 10 (g_tab [(0, 10, 13, 15)])) (E : EH (kΓ K) (kHI K) (kl K)) (Q : GQ K (some (Jvm.ClassFile.FieldType.int)) (.inl (some (vI r))) S1) : ∀ (S : St) (x0 : Option Nat) (x1 : Int32) (x2 : Int32) (x3 : Option Nat), n_X0_limits S x0 x1 x2 x3 = some (r, S1) → G K 5 S 0 [(0, vR x0), (1, vI x1), (2, vI x2), (3, vR x3)] [] := by
  intro S x0 x1 x2 x3 hd
  unfold n_X0_limits at hd
  refine g_aload_n C dX0_limits_0 rfl 3 rfl ?_
  refine g_iconst (v := 0) C dX0_limits_1 (by decide) ?_
  refine g_aload_n C dX0_limits_2 rfl 0 rfl ?_
  refine g_iload_n C dX0_limits_3 rfl 1 rfl ?_
  refine g_iload_n C dX0_limits_4 rfl 2 rfl ?_
  obtain ⟨hg, hd⟩ := gd_some hd
  rcases cbn_some hd with ⟨E9, S1, hc, hd⟩ | ⟨v2, S1, hc, hd⟩
  · refine g_cV_x (n := 2) C (gk_X1).1 q1561 q1562 q1563 q95 q1564 (by decide +kernel) (by decide) (by decide) dX0_limits_5 (As := [vI x1, vI x2]) (rest := [vI (0 : Int32), vR x3]) rfl rfl (Nat.le_of_ble_eq_true rfl) hg (m_X1_limits E hc) ?_
    by_cases hE : E9 = "java/lang/IllegalArgumentException"
    · rw [if_pos hE] at hd; subst hE
      refine g_catch C [] ⟨0, 10, 13, 15⟩ [] rfl (fun z hz => nomatch hz) rfl (by decide) q1116 q722 fun q9 => ?_
      refine g_astore (L' := [(4, vR (some q9)), (0, vR x0), (1, vI x1), (2, vI x2), (3, vR x3)]) C dX0_limits_13 (by decide) rfl ?_
      refine g_iconst (v := 1) C dX0_limits_15 (by decide) ?_
      exact g_iret C Q hd dX0_limits_16
    · rw [if_neg hE] at hd
      cases hd
  refine g_cV_v (n := 2) C (gk_X1).1 q1561 q1562 q1563 q95 q1564 (by decide +kernel) (by decide) (by decide) dX0_limits_5 (As := [vI x1, vI x2]) (rest := [vI (0 : Int32), vR x3]) rfl rfl (Nat.le_of_ble_eq_true rfl) hg (m_X1_limits E hc) ?_
  refine g_i2l C dX0_limits_8 ?_
  obtain ⟨S3, hS3, hd⟩ := Option.bind_eq_some_iff.mp hd
  refine g_last C dX0_limits_9 hS3 ?_
  refine g_goto (tgt := 17) C dX0_limits_10 (by decide) ?_
  refine g_iconst (v := 0) C dX0_limits_17 (by decide) ?_
  exact g_iret C Q hd dX0_limits_18
theorem m_X0_limits {Γ : GG} {HI : St → Heap → Prop} {l : Launch} (E : EH Γ HI l) {S : St} {a0 : Option Nat} {a1 : Int32} {a2 : Int32} {a3 : Option Nat} {r : Int32} {S1 : St} (h : n_X0_limits S a0 a1 a2 a3 = some (r, S1)) : MSW Γ HI l yX0_limits cX0_limits 5 (some (Jvm.ClassFile.FieldType.int)) [(0, 10, 13, 15)] 10 S [vR a0, vI a1, vI a2, vR a3] (.inl (some (vI r))) S1 := by
  refine MSW_of E.ntr E.hx (by decide +kernel) rfl (Nat.le_of_ble_eq_true rfl) fun K e1 e2 e3 e4 hnm C Q => ?_
  subst e1; subst e2; subst e3
  exact w_X0_limits_b0m C E Q S a0 a1 a2 a3 h

def n_X0_work (S : St) (x0 : Option Nat) (x1 : Int32) (x2 : Option Nat) : Option (Int32 × St) :=
  gd (grc S x0 0) <|
  cbn (n_X1_work S x0 x1) (fun E9 S1 => if E9 = "java/lang/IllegalArgumentException" then rtI id (Jvm.ClassFile.FieldType.int) (1 : Int32) S1 else none) fun v2 S1 =>
  (sL S1 x2 (0 : Int32) (v2.toInt64)).bind fun S3 =>
  rtI id (Jvm.ClassFile.FieldType.int) (0 : Int32) S3
theorem w_X0_work_b0m {K : KT} {r : Int32} {S1 : St} (C : GC K RX0 cX0_work 4 40 (g_tab [(0, 9, 12, 15)])) (E : EH (kΓ K) (kHI K) (kl K)) (Q : GQ K (some (Jvm.ClassFile.FieldType.int)) (.inl (some (vI r))) S1) : ∀ (S : St) (x0 : Option Nat) (x1 : Int32) (x2 : Option Nat), n_X0_work S x0 x1 x2 = some (r, S1) → G K 4 S 0 [(0, vR x0), (1, vI x1), (2, vR x2)] [] := by
  intro S x0 x1 x2 hd
  unfold n_X0_work at hd
  refine g_aload_n C dX0_work_0 rfl 2 rfl ?_
  refine g_iconst (v := 0) C dX0_work_1 (by decide) ?_
  refine g_aload_n C dX0_work_2 rfl 0 rfl ?_
  refine g_iload_n C dX0_work_3 rfl 1 rfl ?_
  obtain ⟨hg, hd⟩ := gd_some hd
  rcases cbn_some hd with ⟨E9, S1, hc, hd⟩ | ⟨v2, S1, hc, hd⟩
  · refine g_cV_x (n := 1) C (gk_X1).1 q1568 q1569 q1570 q95 q1571 (by decide +kernel) (by decide) (by decide) dX0_work_4 (As := [vI x1]) (rest := [vI (0 : Int32), vR x2]) rfl rfl (Nat.le_of_ble_eq_true rfl) hg (m_X1_work E hc) ?_
    by_cases hE : E9 = "java/lang/IllegalArgumentException"
    · rw [if_pos hE] at hd; subst hE
      refine g_catch C [] ⟨0, 9, 12, 15⟩ [] rfl (fun z hz => nomatch hz) rfl (by decide) q1116 q722 fun q9 => ?_
      refine g_astore_n (L' := [(3, vR (some q9)), (0, vR x0), (1, vI x1), (2, vR x2)]) C dX0_work_12 rfl (by decide) rfl ?_
      refine g_iconst (v := 1) C dX0_work_13 (by decide) ?_
      exact g_iret C Q hd dX0_work_14
    · rw [if_neg hE] at hd
      cases hd
  refine g_cV_v (n := 1) C (gk_X1).1 q1568 q1569 q1570 q95 q1571 (by decide +kernel) (by decide) (by decide) dX0_work_4 (As := [vI x1]) (rest := [vI (0 : Int32), vR x2]) rfl rfl (Nat.le_of_ble_eq_true rfl) hg (m_X1_work E hc) ?_
  refine g_i2l C dX0_work_7 ?_
  obtain ⟨S3, hS3, hd⟩ := Option.bind_eq_some_iff.mp hd
  refine g_last C dX0_work_8 hS3 ?_
  refine g_goto (tgt := 15) C dX0_work_9 (by decide) ?_
  refine g_iconst (v := 0) C dX0_work_15 (by decide) ?_
  exact g_iret C Q hd dX0_work_16
theorem m_X0_work {Γ : GG} {HI : St → Heap → Prop} {l : Launch} (E : EH Γ HI l) {S : St} {a0 : Option Nat} {a1 : Int32} {a2 : Option Nat} {r : Int32} {S1 : St} (h : n_X0_work S a0 a1 a2 = some (r, S1)) : MSW Γ HI l yX0_work cX0_work 4 (some (Jvm.ClassFile.FieldType.int)) [(0, 9, 12, 15)] 40 S [vR a0, vI a1, vR a2] (.inl (some (vI r))) S1 := by
  refine MSW_of E.ntr E.hx (by decide +kernel) rfl (Nat.le_of_ble_eq_true rfl) fun K e1 e2 e3 e4 hnm C Q => ?_
  subst e1; subst e2; subst e3
  exact w_X0_work_b0m C E Q S a0 a1 a2 h

def n_X0_crawl (S : St) (x0 : Option Nat) (x1 : Int32) (x2 : Option Nat) : Option (Int32 × St) :=
  gd (grc S x0 0) <|
  cbn (n_X1_crawl_2 S x0 x1) (fun E9 S1 => if E9 = "java/lang/IndexOutOfBoundsException" then rtI id (Jvm.ClassFile.FieldType.int) (1 : Int32) S1 else none) fun v2 S1 =>
  (sL S1 x2 (0 : Int32) (v2.toInt64)).bind fun S3 =>
  rtI id (Jvm.ClassFile.FieldType.int) (0 : Int32) S3
theorem w_X0_crawl_b0m {K : KT} {r : Int32} {S1 : St} (C : GC K RX0 cX0_crawl 4 10 (g_tab [(0, 9, 12, 13)])) (E : EH (kΓ K) (kHI K) (kl K)) (Q : GQ K (some (Jvm.ClassFile.FieldType.int)) (.inl (some (vI r))) S1) : ∀ (S : St) (x0 : Option Nat) (x1 : Int32) (x2 : Option Nat), n_X0_crawl S x0 x1 x2 = some (r, S1) → G K 4 S 0 [(0, vR x0), (1, vI x1), (2, vR x2)] [] := by
  intro S x0 x1 x2 hd
  unfold n_X0_crawl at hd
  refine g_aload_n C dX0_crawl_0 rfl 2 rfl ?_
  refine g_iconst (v := 0) C dX0_crawl_1 (by decide) ?_
  refine g_aload_n C dX0_crawl_2 rfl 0 rfl ?_
  refine g_iload_n C dX0_crawl_3 rfl 1 rfl ?_
  obtain ⟨hg, hd⟩ := gd_some hd
  rcases cbn_some hd with ⟨E9, S1, hc, hd⟩ | ⟨v2, S1, hc, hd⟩
  · refine g_cV_x (n := 1) C (gk_X1).1 q1880 q1881 q1882 q95 q1883 (by decide +kernel) (by decide) (by decide) dX0_crawl_4 (As := [vI x1]) (rest := [vI (0 : Int32), vR x2]) rfl rfl (Nat.le_of_ble_eq_true rfl) hg (m_X1_crawl_2 E hc) ?_
    by_cases hE : E9 = "java/lang/IndexOutOfBoundsException"
    · rw [if_pos hE] at hd; subst hE
      refine g_catch C [] ⟨0, 9, 12, 13⟩ [] rfl (fun z hz => nomatch hz) rfl (by decide) q1100 q474 fun q9 => ?_
      refine g_astore_n (L' := [(3, vR (some q9)), (0, vR x0), (1, vI x1), (2, vR x2)]) C dX0_crawl_12 rfl (by decide) rfl ?_
      refine g_iconst (v := 1) C dX0_crawl_13 (by decide) ?_
      exact g_iret C Q hd dX0_crawl_14
    · rw [if_neg hE] at hd
      cases hd
  refine g_cV_v (n := 1) C (gk_X1).1 q1880 q1881 q1882 q95 q1883 (by decide +kernel) (by decide) (by decide) dX0_crawl_4 (As := [vI x1]) (rest := [vI (0 : Int32), vR x2]) rfl rfl (Nat.le_of_ble_eq_true rfl) hg (m_X1_crawl_2 E hc) ?_
  refine g_i2l C dX0_crawl_7 ?_
  obtain ⟨S3, hS3, hd⟩ := Option.bind_eq_some_iff.mp hd
  refine g_last C dX0_crawl_8 hS3 ?_
  refine g_goto (tgt := 15) C dX0_crawl_9 (by decide) ?_
  refine g_iconst (v := 0) C dX0_crawl_15 (by decide) ?_
  exact g_iret C Q hd dX0_crawl_16
theorem m_X0_crawl {Γ : GG} {HI : St → Heap → Prop} {l : Launch} (E : EH Γ HI l) {S : St} {a0 : Option Nat} {a1 : Int32} {a2 : Option Nat} {r : Int32} {S1 : St} (h : n_X0_crawl S a0 a1 a2 = some (r, S1)) : MSW Γ HI l yX0_crawl cX0_crawl 4 (some (Jvm.ClassFile.FieldType.int)) [(0, 9, 12, 13)] 10 S [vR a0, vI a1, vR a2] (.inl (some (vI r))) S1 := by
  refine MSW_of E.ntr E.hx (by decide +kernel) rfl (Nat.le_of_ble_eq_true rfl) fun K e1 e2 e3 e4 hnm C Q => ?_
  subst e1; subst e2; subst e3
  exact w_X0_crawl_b0m C E Q S a0 a1 a2 h

def n_X0_edition (S : St) (x0 : Option Nat) (x1 : Int32) (x2 : Option Nat) : Option (Int32 × St) :=
  gd (grc S x0 0) <|
  cbn (n_X1_edition S x0 x1) (fun E9 S1 => if E9 = "java/lang/IndexOutOfBoundsException" then rtI id (Jvm.ClassFile.FieldType.int) (1 : Int32) S1 else none) fun v2 S1 =>
  (sL S1 x2 (0 : Int32) (v2.toInt64)).bind fun S3 =>
  rtI id (Jvm.ClassFile.FieldType.int) (0 : Int32) S3
theorem w_X0_edition_b0m {K : KT} {r : Int32} {S1 : St} (C : GC K RX0 cX0_edition 4 11 (g_tab [(0, 9, 12, 13)])) (E : EH (kΓ K) (kHI K) (kl K)) (Q : GQ K (some (Jvm.ClassFile.FieldType.int)) (.inl (some (vI r))) S1) : ∀ (S : St) (x0 : Option Nat) (x1 : Int32) (x2 : Option Nat), n_X0_edition S x0 x1 x2 = some (r, S1) → G K 4 S 0 [(0, vR x0), (1, vI x1), (2, vR x2)] [] := by
  intro S x0 x1 x2 hd
  unfold n_X0_edition at hd
  refine g_aload_n C dX0_edition_0 rfl 2 rfl ?_
  refine g_iconst (v := 0) C dX0_edition_1 (by decide) ?_
  refine g_aload_n C dX0_edition_2 rfl 0 rfl ?_
  refine g_iload_n C dX0_edition_3 rfl 1 rfl ?_
  obtain ⟨hg, hd⟩ := gd_some hd
  rcases cbn_some hd with ⟨E9, S1, hc, hd⟩ | ⟨v2, S1, hc, hd⟩
  · refine g_cV_x (n := 1) C (gk_X1).1 q1887 q1888 q1889 q95 q1890 (by decide +kernel) (by decide) (by decide) dX0_edition_4 (As := [vI x1]) (rest := [vI (0 : Int32), vR x2]) rfl rfl (Nat.le_of_ble_eq_true rfl) hg (m_X1_edition E hc) ?_
    by_cases hE : E9 = "java/lang/IndexOutOfBoundsException"
    · rw [if_pos hE] at hd; subst hE
      refine g_catch C [] ⟨0, 9, 12, 13⟩ [] rfl (fun z hz => nomatch hz) rfl (by decide) q1100 q474 fun q9 => ?_
      refine g_astore_n (L' := [(3, vR (some q9)), (0, vR x0), (1, vI x1), (2, vR x2)]) C dX0_edition_12 rfl (by decide) rfl ?_
      refine g_iconst (v := 1) C dX0_edition_13 (by decide) ?_
      exact g_iret C Q hd dX0_edition_14
    · rw [if_neg hE] at hd
      cases hd
  refine g_cV_v (n := 1) C (gk_X1).1 q1887 q1888 q1889 q95 q1890 (by decide +kernel) (by decide) (by decide) dX0_edition_4 (As := [vI x1]) (rest := [vI (0 : Int32), vR x2]) rfl rfl (Nat.le_of_ble_eq_true rfl) hg (m_X1_edition E hc) ?_
  refine g_i2l C dX0_edition_7 ?_
  obtain ⟨S3, hS3, hd⟩ := Option.bind_eq_some_iff.mp hd
  refine g_last C dX0_edition_8 hS3 ?_
  refine g_goto (tgt := 15) C dX0_edition_9 (by decide) ?_
  refine g_iconst (v := 0) C dX0_edition_15 (by decide) ?_
  exact g_iret C Q hd dX0_edition_16
theorem m_X0_edition {Γ : GG} {HI : St → Heap → Prop} {l : Launch} (E : EH Γ HI l) {S : St} {a0 : Option Nat} {a1 : Int32} {a2 : Option Nat} {r : Int32} {S1 : St} (h : n_X0_edition S a0 a1 a2 = some (r, S1)) : MSW Γ HI l yX0_edition cX0_edition 4 (some (Jvm.ClassFile.FieldType.int)) [(0, 9, 12, 13)] 11 S [vR a0, vI a1, vR a2] (.inl (some (vI r))) S1 := by
  refine MSW_of E.ntr E.hx (by decide +kernel) rfl (Nat.le_of_ble_eq_true rfl) fun K e1 e2 e3 e4 hnm C Q => ?_
  subst e1; subst e2; subst e3
  exact w_X0_edition_b0m C E Q S a0 a1 a2 h

def n_X0_answers (S : St) (x0 : Option Nat) (x1 : Int32) (x2 : Int32) (x3 : Int32) (x4 : Int32) (x5 : Option Nat) : Option (Int32 × St) :=
  gd (grc S x0 0) <|
  cbn (n_X1_answers S x0 x1 x2 x3 x4) (fun E9 S1 => if E9 = "java/lang/IndexOutOfBoundsException" then rtI id (Jvm.ClassFile.FieldType.int) (1 : Int32) S1 else if E9 = "java/lang/IllegalArgumentException" then rtI id (Jvm.ClassFile.FieldType.int) (2 : Int32) S1 else none) fun v2 S1 =>
  (sL S1 x5 (0 : Int32) (v2.toInt64)).bind fun S3 =>
  rtI id (Jvm.ClassFile.FieldType.int) (0 : Int32) S3
theorem w_X0_answers_b0m {K : KT} {r : Int32} {S1 : St} (C : GC K RX0 cX0_answers 7 11 (g_tab [(0, 14, 17, 13), (0, 14, 21, 15)])) (E : EH (kΓ K) (kHI K) (kl K)) (Q : GQ K (some (Jvm.ClassFile.FieldType.int)) (.inl (some (vI r))) S1) : ∀ (S : St) (x0 : Option Nat) (x1 : Int32) (x2 : Int32) (x3 : Int32) (x4 : Int32) (x5 : Option Nat), n_X0_answers S x0 x1 x2 x3 x4 x5 = some (r, S1) → G K 7 S 0 [(0, vR x0), (1, vI x1), (2, vI x2), (3, vI x3), (4, vI x4), (5, vR x5)] [] := by
  intro S x0 x1 x2 x3 x4 x5 hd
  unfold n_X0_answers at hd
  refine g_aload C dX0_answers_0 5 rfl ?_
  refine g_iconst (v := 0) C dX0_answers_2 (by decide) ?_
  refine g_aload_n C dX0_answers_3 rfl 0 rfl ?_
  refine g_iload_n C dX0_answers_4 rfl 1 rfl ?_
  refine g_iload_n C dX0_answers_5 rfl 2 rfl ?_
  refine g_iload_n C dX0_answers_6 rfl 3 rfl ?_
  refine g_iload C dX0_answers_7 4 rfl ?_
  obtain ⟨hg, hd⟩ := gd_some hd
  rcases cbn_some hd with ⟨E9, S1, hc, hd⟩ | ⟨v2, S1, hc, hd⟩
  · refine g_cV_x (n := 4) C (gk_X1).1 q1898 q1899 q1900 q95 q1901 (by decide +kernel) (by decide) (by decide) dX0_answers_9 (As := [vI x1, vI x2, vI x3, vI x4]) (rest := [vI (0 : Int32), vR x5]) rfl rfl (Nat.le_of_ble_eq_true rfl) hg (m_X1_answers E hc) ?_
    by_cases hE : E9 = "java/lang/IndexOutOfBoundsException"
    · rw [if_pos hE] at hd; subst hE
      refine g_catch C [] ⟨0, 14, 17, 13⟩ [⟨0, 14, 21, 15⟩] rfl (fun z hz => nomatch hz) rfl (by decide) q1100 q474 fun q9 => ?_
      refine g_astore (L' := [(6, vR (some q9)), (0, vR x0), (1, vI x1), (2, vI x2), (3, vI x3), (4, vI x4), (5, vR x5)]) C dX0_answers_17 (by decide) rfl ?_
      refine g_iconst (v := 1) C dX0_answers_19 (by decide) ?_
      exact g_iret C Q hd dX0_answers_20
    · rw [if_neg hE] at hd
      by_cases hE : E9 = "java/lang/IllegalArgumentException"
      · rw [if_pos hE] at hd; subst hE
        refine g_catch C [⟨0, 14, 17, 13⟩] ⟨0, 14, 21, 15⟩ [] rfl (by simp only [List.forall_mem_cons]; exact ⟨Or.inr ⟨by decide, _, q1100, fun lv => (C lv).hk.2.2.2.2.2.2.2.2.1⟩, fun _ h => nomatch h⟩) rfl (by decide) q1116 q722 fun q9 => ?_
        refine g_astore (L' := [(6, vR (some q9)), (0, vR x0), (1, vI x1), (2, vI x2), (3, vI x3), (4, vI x4), (5, vR x5)]) C dX0_answers_21 (by decide) rfl ?_
        refine g_iconst (v := 2) C dX0_answers_23 (by decide) ?_
        exact g_iret C Q hd dX0_answers_24
      · rw [if_neg hE] at hd
        cases hd
  refine g_cV_v (n := 4) C (gk_X1).1 q1898 q1899 q1900 q95 q1901 (by decide +kernel) (by decide) (by decide) dX0_answers_9 (As := [vI x1, vI x2, vI x3, vI x4]) (rest := [vI (0 : Int32), vR x5]) rfl rfl (Nat.le_of_ble_eq_true rfl) hg (m_X1_answers E hc) ?_
  refine g_i2l C dX0_answers_12 ?_
  obtain ⟨S3, hS3, hd⟩ := Option.bind_eq_some_iff.mp hd
  refine g_last C dX0_answers_13 hS3 ?_
  refine g_goto (tgt := 25) C dX0_answers_14 (by decide) ?_
  refine g_iconst (v := 0) C dX0_answers_25 (by decide) ?_
  exact g_iret C Q hd dX0_answers_26
theorem m_X0_answers {Γ : GG} {HI : St → Heap → Prop} {l : Launch} (E : EH Γ HI l) {S : St} {a0 : Option Nat} {a1 : Int32} {a2 : Int32} {a3 : Int32} {a4 : Int32} {a5 : Option Nat} {r : Int32} {S1 : St} (h : n_X0_answers S a0 a1 a2 a3 a4 a5 = some (r, S1)) : MSW Γ HI l yX0_answers cX0_answers 7 (some (Jvm.ClassFile.FieldType.int)) [(0, 14, 17, 13), (0, 14, 21, 15)] 11 S [vR a0, vI a1, vI a2, vI a3, vI a4, vR a5] (.inl (some (vI r))) S1 := by
  refine MSW_of E.ntr E.hx (by decide +kernel) rfl (Nat.le_of_ble_eq_true rfl) fun K e1 e2 e3 e4 hnm C Q => ?_
  subst e1; subst e2; subst e3
  exact w_X0_answers_b0m C E Q S a0 a1 a2 a3 a4 a5 h

def n_X0_answersAnew (S : St) (x0 : Option Nat) (x1 : Int32) (x2 : Int32) (x3 : Int32) (x4 : Int32) (x5 : Option Nat) : Option (Int32 × St) :=
  gd (grc S x0 0) <|
  cbn (n_X1_answersAnew S x0 x1 x2 x3 x4) (fun E9 S1 => if E9 = "java/lang/IndexOutOfBoundsException" then rtI id (Jvm.ClassFile.FieldType.int) (1 : Int32) S1 else if E9 = "java/lang/IllegalArgumentException" then rtI id (Jvm.ClassFile.FieldType.int) (2 : Int32) S1 else none) fun v2 S1 =>
  (sL S1 x5 (0 : Int32) (v2.toInt64)).bind fun S3 =>
  rtI id (Jvm.ClassFile.FieldType.int) (0 : Int32) S3
theorem w_X0_answersAnew_b0m {K : KT} {r : Int32} {S1 : St} (C : GC K RX0 cX0_answersAnew 7 37 (g_tab [(0, 14, 17, 13), (0, 14, 21, 15)])) (E : EH (kΓ K) (kHI K) (kl K)) (Q : GQ K (some (Jvm.ClassFile.FieldType.int)) (.inl (some (vI r))) S1) : ∀ (S : St) (x0 : Option Nat) (x1 : Int32) (x2 : Int32) (x3 : Int32) (x4 : Int32) (x5 : Option Nat), n_X0_answersAnew S x0 x1 x2 x3 x4 x5 = some (r, S1) → G K 7 S 0 [(0, vR x0), (1, vI x1), (2, vI x2), (3, vI x3), (4, vI x4), (5, vR x5)] [] := by
  intro S x0 x1 x2 x3 x4 x5 hd
  unfold n_X0_answersAnew at hd
  refine g_aload C dX0_answersAnew_0 5 rfl ?_
  refine g_iconst (v := 0) C dX0_answersAnew_2 (by decide) ?_
  refine g_aload_n C dX0_answersAnew_3 rfl 0 rfl ?_
  refine g_iload_n C dX0_answersAnew_4 rfl 1 rfl ?_
  refine g_iload_n C dX0_answersAnew_5 rfl 2 rfl ?_
  refine g_iload_n C dX0_answersAnew_6 rfl 3 rfl ?_
  refine g_iload C dX0_answersAnew_7 4 rfl ?_
  obtain ⟨hg, hd⟩ := gd_some hd
  rcases cbn_some hd with ⟨E9, S1, hc, hd⟩ | ⟨v2, S1, hc, hd⟩
  · refine g_cV_x (n := 4) C (gk_X1).1 q1942 q1943 q1944 q95 q1945 (by decide +kernel) (by decide) (by decide) dX0_answersAnew_9 (As := [vI x1, vI x2, vI x3, vI x4]) (rest := [vI (0 : Int32), vR x5]) rfl rfl (Nat.le_of_ble_eq_true rfl) hg (m_X1_answersAnew E hc) ?_
    by_cases hE : E9 = "java/lang/IndexOutOfBoundsException"
    · rw [if_pos hE] at hd; subst hE
      refine g_catch C [] ⟨0, 14, 17, 13⟩ [⟨0, 14, 21, 15⟩] rfl (fun z hz => nomatch hz) rfl (by decide) q1100 q474 fun q9 => ?_
      refine g_astore (L' := [(6, vR (some q9)), (0, vR x0), (1, vI x1), (2, vI x2), (3, vI x3), (4, vI x4), (5, vR x5)]) C dX0_answersAnew_17 (by decide) rfl ?_
      refine g_iconst (v := 1) C dX0_answersAnew_19 (by decide) ?_
      exact g_iret C Q hd dX0_answersAnew_20
    · rw [if_neg hE] at hd
      by_cases hE : E9 = "java/lang/IllegalArgumentException"
      · rw [if_pos hE] at hd; subst hE
        refine g_catch C [⟨0, 14, 17, 13⟩] ⟨0, 14, 21, 15⟩ [] rfl (by simp only [List.forall_mem_cons]; exact ⟨Or.inr ⟨by decide, _, q1100, fun lv => (C lv).hk.2.2.2.2.2.2.2.2.1⟩, fun _ h => nomatch h⟩) rfl (by decide) q1116 q722 fun q9 => ?_
        refine g_astore (L' := [(6, vR (some q9)), (0, vR x0), (1, vI x1), (2, vI x2), (3, vI x3), (4, vI x4), (5, vR x5)]) C dX0_answersAnew_21 (by decide) rfl ?_
        refine g_iconst (v := 2) C dX0_answersAnew_23 (by decide) ?_
        exact g_iret C Q hd dX0_answersAnew_24
      · rw [if_neg hE] at hd
        cases hd
  refine g_cV_v (n := 4) C (gk_X1).1 q1942 q1943 q1944 q95 q1945 (by decide +kernel) (by decide) (by decide) dX0_answersAnew_9 (As := [vI x1, vI x2, vI x3, vI x4]) (rest := [vI (0 : Int32), vR x5]) rfl rfl (Nat.le_of_ble_eq_true rfl) hg (m_X1_answersAnew E hc) ?_
  refine g_i2l C dX0_answersAnew_12 ?_
  obtain ⟨S3, hS3, hd⟩ := Option.bind_eq_some_iff.mp hd
  refine g_last C dX0_answersAnew_13 hS3 ?_
  refine g_goto (tgt := 25) C dX0_answersAnew_14 (by decide) ?_
  refine g_iconst (v := 0) C dX0_answersAnew_25 (by decide) ?_
  exact g_iret C Q hd dX0_answersAnew_26
theorem m_X0_answersAnew {Γ : GG} {HI : St → Heap → Prop} {l : Launch} (E : EH Γ HI l) {S : St} {a0 : Option Nat} {a1 : Int32} {a2 : Int32} {a3 : Int32} {a4 : Int32} {a5 : Option Nat} {r : Int32} {S1 : St} (h : n_X0_answersAnew S a0 a1 a2 a3 a4 a5 = some (r, S1)) : MSW Γ HI l yX0_answersAnew cX0_answersAnew 7 (some (Jvm.ClassFile.FieldType.int)) [(0, 14, 17, 13), (0, 14, 21, 15)] 37 S [vR a0, vI a1, vI a2, vI a3, vI a4, vR a5] (.inl (some (vI r))) S1 := by
  refine MSW_of E.ntr E.hx (by decide +kernel) rfl (Nat.le_of_ble_eq_true rfl) fun K e1 e2 e3 e4 hnm C Q => ?_
  subst e1; subst e2; subst e3
  exact w_X0_answersAnew_b0m C E Q S a0 a1 a2 a3 a4 a5 h

def n_X0_answer (S : St) (x0 : Option Nat) (x1 : Int32) (x2 : Int32) (x3 : Int32) (x4 : Int32) (x5 : Option Nat) : Option (Int32 × St) :=
  gd (grc S x0 0) <|
  cbn (n_X1_answer_2 S x0 x1 x2 x3 x4) (fun E9 S1 => if E9 = "java/lang/IndexOutOfBoundsException" then rtI id (Jvm.ClassFile.FieldType.int) (1 : Int32) S1 else if E9 = "java/lang/IllegalArgumentException" then rtI id (Jvm.ClassFile.FieldType.int) (2 : Int32) S1 else none) fun v2 S1 =>
  (sL S1 x5 (0 : Int32) (v2.toInt64)).bind fun S3 =>
  rtI id (Jvm.ClassFile.FieldType.int) (0 : Int32) S3
theorem w_X0_answer_b0m {K : KT} {r : Int32} {S1 : St} (C : GC K RX0 cX0_answer 7 11 (g_tab [(0, 14, 17, 13), (0, 14, 21, 15)])) (E : EH (kΓ K) (kHI K) (kl K)) (Q : GQ K (some (Jvm.ClassFile.FieldType.int)) (.inl (some (vI r))) S1) : ∀ (S : St) (x0 : Option Nat) (x1 : Int32) (x2 : Int32) (x3 : Int32) (x4 : Int32) (x5 : Option Nat), n_X0_answer S x0 x1 x2 x3 x4 x5 = some (r, S1) → G K 7 S 0 [(0, vR x0), (1, vI x1), (2, vI x2), (3, vI x3), (4, vI x4), (5, vR x5)] [] := by
  intro S x0 x1 x2 x3 x4 x5 hd
  unfold n_X0_answer at hd
  refine g_aload C dX0_answer_0 5 rfl ?_
  refine g_iconst (v := 0) C dX0_answer_2 (by decide) ?_
  refine g_aload_n C dX0_answer_3 rfl 0 rfl ?_
  refine g_iload_n C dX0_answer_4 rfl 1 rfl ?_
  refine g_iload_n C dX0_answer_5 rfl 2 rfl ?_
  refine g_iload_n C dX0_answer_6 rfl 3 rfl ?_
  refine g_iload C dX0_answer_7 4 rfl ?_
  obtain ⟨hg, hd⟩ := gd_some hd
  rcases cbn_some hd with ⟨E9, S1, hc, hd⟩ | ⟨v2, S1, hc, hd⟩
  · refine g_cV_x (n := 4) C (gk_X1).1 q1949 q1950 q1951 q95 q1952 (by decide +kernel) (by decide) (by decide) dX0_answer_9 (As := [vI x1, vI x2, vI x3, vI x4]) (rest := [vI (0 : Int32), vR x5]) rfl rfl (Nat.le_of_ble_eq_true rfl) hg (m_X1_answer_2 E hc) ?_
    by_cases hE : E9 = "java/lang/IndexOutOfBoundsException"
    · rw [if_pos hE] at hd; subst hE
      refine g_catch C [] ⟨0, 14, 17, 13⟩ [⟨0, 14, 21, 15⟩] rfl (fun z hz => nomatch hz) rfl (by decide) q1100 q474 fun q9 => ?_
      refine g_astore (L' := [(6, vR (some q9)), (0, vR x0), (1, vI x1), (2, vI x2), (3, vI x3), (4, vI x4), (5, vR x5)]) C dX0_answer_17 (by decide) rfl ?_
      refine g_iconst (v := 1) C dX0_answer_19 (by decide) ?_
      exact g_iret C Q hd dX0_answer_20
    · rw [if_neg hE] at hd
      by_cases hE : E9 = "java/lang/IllegalArgumentException"
      · rw [if_pos hE] at hd; subst hE
        refine g_catch C [⟨0, 14, 17, 13⟩] ⟨0, 14, 21, 15⟩ [] rfl (by simp only [List.forall_mem_cons]; exact ⟨Or.inr ⟨by decide, _, q1100, fun lv => (C lv).hk.2.2.2.2.2.2.2.2.1⟩, fun _ h => nomatch h⟩) rfl (by decide) q1116 q722 fun q9 => ?_
        refine g_astore (L' := [(6, vR (some q9)), (0, vR x0), (1, vI x1), (2, vI x2), (3, vI x3), (4, vI x4), (5, vR x5)]) C dX0_answer_21 (by decide) rfl ?_
        refine g_iconst (v := 2) C dX0_answer_23 (by decide) ?_
        exact g_iret C Q hd dX0_answer_24
      · rw [if_neg hE] at hd
        cases hd
  refine g_cV_v (n := 4) C (gk_X1).1 q1949 q1950 q1951 q95 q1952 (by decide +kernel) (by decide) (by decide) dX0_answer_9 (As := [vI x1, vI x2, vI x3, vI x4]) (rest := [vI (0 : Int32), vR x5]) rfl rfl (Nat.le_of_ble_eq_true rfl) hg (m_X1_answer_2 E hc) ?_
  refine g_i2l C dX0_answer_12 ?_
  obtain ⟨S3, hS3, hd⟩ := Option.bind_eq_some_iff.mp hd
  refine g_last C dX0_answer_13 hS3 ?_
  refine g_goto (tgt := 25) C dX0_answer_14 (by decide) ?_
  refine g_iconst (v := 0) C dX0_answer_25 (by decide) ?_
  exact g_iret C Q hd dX0_answer_26
theorem m_X0_answer {Γ : GG} {HI : St → Heap → Prop} {l : Launch} (E : EH Γ HI l) {S : St} {a0 : Option Nat} {a1 : Int32} {a2 : Int32} {a3 : Int32} {a4 : Int32} {a5 : Option Nat} {r : Int32} {S1 : St} (h : n_X0_answer S a0 a1 a2 a3 a4 a5 = some (r, S1)) : MSW Γ HI l yX0_answer cX0_answer 7 (some (Jvm.ClassFile.FieldType.int)) [(0, 14, 17, 13), (0, 14, 21, 15)] 11 S [vR a0, vI a1, vI a2, vI a3, vI a4, vR a5] (.inl (some (vI r))) S1 := by
  refine MSW_of E.ntr E.hx (by decide +kernel) rfl (Nat.le_of_ble_eq_true rfl) fun K e1 e2 e3 e4 hnm C Q => ?_
  subst e1; subst e2; subst e3
  exact w_X0_answer_b0m C E Q S a0 a1 a2 a3 a4 a5 h

def n_X0_closest (S : St) (x0 : Option Nat) (x1 : Int32) (x2 : Int32) (x3 : Int32) (x4 : Int32) (x5 : Option Nat) : Option (Int32 × St) :=
  gd (grc S x0 0) <|
  cbn (n_X1_closest S x0 x1 x2 x3 x4) (fun E9 S1 => if E9 = "java/lang/IndexOutOfBoundsException" then rtI id (Jvm.ClassFile.FieldType.int) (1 : Int32) S1 else if E9 = "java/lang/IllegalArgumentException" then rtI id (Jvm.ClassFile.FieldType.int) (2 : Int32) S1 else none) fun v2 S1 =>
  (sL S1 x5 (0 : Int32) (v2.toInt64)).bind fun S3 =>
  rtI id (Jvm.ClassFile.FieldType.int) (0 : Int32) S3
theorem w_X0_closest_b0m {K : KT} {r : Int32} {S1 : St} (C : GC K RX0 cX0_closest 7 11 (g_tab [(0, 14, 17, 13), (0, 14, 21, 15)])) (E : EH (kΓ K) (kHI K) (kl K)) (Q : GQ K (some (Jvm.ClassFile.FieldType.int)) (.inl (some (vI r))) S1) : ∀ (S : St) (x0 : Option Nat) (x1 : Int32) (x2 : Int32) (x3 : Int32) (x4 : Int32) (x5 : Option Nat), n_X0_closest S x0 x1 x2 x3 x4 x5 = some (r, S1) → G K 7 S 0 [(0, vR x0), (1, vI x1), (2, vI x2), (3, vI x3), (4, vI x4), (5, vR x5)] [] := by
  intro S x0 x1 x2 x3 x4 x5 hd
  unfold n_X0_closest at hd
  refine g_aload C dX0_closest_0 5 rfl ?_
  refine g_iconst (v := 0) C dX0_closest_2 (by decide) ?_
  refine g_aload_n C dX0_closest_3 rfl 0 rfl ?_
  refine g_iload_n C dX0_closest_4 rfl 1 rfl ?_
  refine g_iload_n C dX0_closest_5 rfl 2 rfl ?_
  refine g_iload_n C dX0_closest_6 rfl 3 rfl ?_
  refine g_iload C dX0_closest_7 4 rfl ?_
  obtain ⟨hg, hd⟩ := gd_some hd
  rcases cbn_some hd with ⟨E9, S1, hc, hd⟩ | ⟨v2, S1, hc, hd⟩
  · refine g_cV_x (n := 4) C (gk_X1).1 q1956 q1957 q1958 q95 q1959 (by decide +kernel) (by decide) (by decide) dX0_closest_9 (As := [vI x1, vI x2, vI x3, vI x4]) (rest := [vI (0 : Int32), vR x5]) rfl rfl (Nat.le_of_ble_eq_true rfl) hg (m_X1_closest E hc) ?_
    by_cases hE : E9 = "java/lang/IndexOutOfBoundsException"
    · rw [if_pos hE] at hd; subst hE
      refine g_catch C [] ⟨0, 14, 17, 13⟩ [⟨0, 14, 21, 15⟩] rfl (fun z hz => nomatch hz) rfl (by decide) q1100 q474 fun q9 => ?_
      refine g_astore (L' := [(6, vR (some q9)), (0, vR x0), (1, vI x1), (2, vI x2), (3, vI x3), (4, vI x4), (5, vR x5)]) C dX0_closest_17 (by decide) rfl ?_
      refine g_iconst (v := 1) C dX0_closest_19 (by decide) ?_
      exact g_iret C Q hd dX0_closest_20
    · rw [if_neg hE] at hd
      by_cases hE : E9 = "java/lang/IllegalArgumentException"
      · rw [if_pos hE] at hd; subst hE
        refine g_catch C [⟨0, 14, 17, 13⟩] ⟨0, 14, 21, 15⟩ [] rfl (by simp only [List.forall_mem_cons]; exact ⟨Or.inr ⟨by decide, _, q1100, fun lv => (C lv).hk.2.2.2.2.2.2.2.2.1⟩, fun _ h => nomatch h⟩) rfl (by decide) q1116 q722 fun q9 => ?_
        refine g_astore (L' := [(6, vR (some q9)), (0, vR x0), (1, vI x1), (2, vI x2), (3, vI x3), (4, vI x4), (5, vR x5)]) C dX0_closest_21 (by decide) rfl ?_
        refine g_iconst (v := 2) C dX0_closest_23 (by decide) ?_
        exact g_iret C Q hd dX0_closest_24
      · rw [if_neg hE] at hd
        cases hd
  refine g_cV_v (n := 4) C (gk_X1).1 q1956 q1957 q1958 q95 q1959 (by decide +kernel) (by decide) (by decide) dX0_closest_9 (As := [vI x1, vI x2, vI x3, vI x4]) (rest := [vI (0 : Int32), vR x5]) rfl rfl (Nat.le_of_ble_eq_true rfl) hg (m_X1_closest E hc) ?_
  refine g_i2l C dX0_closest_12 ?_
  obtain ⟨S3, hS3, hd⟩ := Option.bind_eq_some_iff.mp hd
  refine g_last C dX0_closest_13 hS3 ?_
  refine g_goto (tgt := 25) C dX0_closest_14 (by decide) ?_
  refine g_iconst (v := 0) C dX0_closest_25 (by decide) ?_
  exact g_iret C Q hd dX0_closest_26
theorem m_X0_closest {Γ : GG} {HI : St → Heap → Prop} {l : Launch} (E : EH Γ HI l) {S : St} {a0 : Option Nat} {a1 : Int32} {a2 : Int32} {a3 : Int32} {a4 : Int32} {a5 : Option Nat} {r : Int32} {S1 : St} (h : n_X0_closest S a0 a1 a2 a3 a4 a5 = some (r, S1)) : MSW Γ HI l yX0_closest cX0_closest 7 (some (Jvm.ClassFile.FieldType.int)) [(0, 14, 17, 13), (0, 14, 21, 15)] 11 S [vR a0, vI a1, vI a2, vI a3, vI a4, vR a5] (.inl (some (vI r))) S1 := by
  refine MSW_of E.ntr E.hx (by decide +kernel) rfl (Nat.le_of_ble_eq_true rfl) fun K e1 e2 e3 e4 hnm C Q => ?_
  subst e1; subst e2; subst e3
  exact w_X0_closest_b0m C E Q S a0 a1 a2 a3 a4 a5 h

