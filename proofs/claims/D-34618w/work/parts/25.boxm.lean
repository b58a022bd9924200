/-! Integer: valueOf, intValue, over any heap -/
def n_J22_init (S : St) (x0 : Option Nat) : Option (Unit × St) :=
  gd (x0).isSome <|
  some ((), S)
theorem w_J22_init_b0m {K : KT} {r : Unit} {S1 : St} (C : GC K RJ22 cJ22_init 1 2 []) (E : EL (kΓ K) (kHI K) (kl K)) (Q : GQ K none (.inl none) S1) (hnm : kLv K → (kme K).name = "<init>") : ∀ (S : St) (x0 : Option Nat), n_J22_init S x0 = some (r, S1) → G K 1 S 0 [(0, vR x0)] [] := by
  intro S x0 hd
  unfold n_J22_init at hd
  refine g_aload_n C dJ22_init_0 rfl 0 rfl ?_
  obtain ⟨hg, hd⟩ := gd_some hd
  refine g_objInit C q1243 q149 q150 (by decide) dJ22_init_1 hg (Nat.le_of_ble_eq_true rfl) ?_
  exact g_vret C Q hd dJ22_init_4
theorem m_J22_init {Γ : GG} {HI : St → Heap → Prop} {l : Launch} (E : EL Γ HI l) {S : St} {a0 : Option Nat} {r : Unit} {S1 : St} (h : n_J22_init S a0 = some (r, S1)) : MS Γ HI l yJ22_init cJ22_init 1 none 2 S [vR a0] (.inl none) S1 := by
  refine MS_of E.ntr E.hx (by decide +kernel) rfl (Nat.le_of_ble_eq_true rfl) fun K e1 e2 e3 e4 hnm C Q => ?_
  subst e1; subst e2; subst e3
  exact w_J22_init_b0m C E Q (by exact hnm) S a0 h

def n_J23_init (S : St) (x0 : Option Nat) (x1 : Int32) : Option (Unit × St) :=
  gd (x0).isSome <|
  bn (n_J22_init S x0) fun _ S1 =>
  (pI .int S1 x0 16 0 x1).bind fun S3 =>
  some ((), S3)
theorem w_J23_init_b0m {K : KT} {r : Unit} {S1 : St} (C : GC K RJ23 cJ23_init 2 3 []) (E : EL (kΓ K) (kHI K) (kl K)) (Q : GQ K none (.inl none) S1) (hnm : kLv K → (kme K).name = "<init>") : ∀ (S : St) (x0 : Option Nat) (x1 : Int32), n_J23_init S x0 x1 = some (r, S1) → G K 2 S 0 [(0, vR x0), (1, vI x1)] [] := by
  intro S x0 x1 hd
  unfold n_J23_init at hd
  refine g_aload_n C dJ23_init_0 rfl 0 rfl ?_
  obtain ⟨hg, hd⟩ := gd_some hd
  obtain ⟨_, S1, hc, hd⟩ := bn_some hd
  refine g_cI_n (n := 0) C q1240 q1241 q121 q1242 rfl (by decide +kernel) (by decide) (by decide) dJ23_init_1 (As := []) (rest := []) rfl rfl (Nat.le_of_ble_eq_true rfl) hg (m_J22_init E hc) ?_
  refine g_aload_n C dJ23_init_4 rfl 0 rfl ?_
  refine g_iload_n C dJ23_init_5 rfl 1 rfl ?_
  obtain ⟨S3, hS3, hd⟩ := Option.bind_eq_some_iff.mp hd
  refine g_putF C gk_J23 (k := 0) (by decide) q1244 rfl rfl hnm rfl dJ23_init_6 (gfit_ok (pI_v hS3).1).1 (gfit_ok (pI_v hS3).1).2 (pI_v hS3).2 ?_
  exact g_vret C Q hd dJ23_init_9
theorem m_J23_init {Γ : GG} {HI : St → Heap → Prop} {l : Launch} (E : EL Γ HI l) {S : St} {a0 : Option Nat} {a1 : Int32} {r : Unit} {S1 : St} (h : n_J23_init S a0 a1 = some (r, S1)) : MS Γ HI l yJ23_init cJ23_init 2 none 3 S [vR a0, vI a1] (.inl none) S1 := by
  refine MS_of E.ntr E.hx (by decide +kernel) rfl (Nat.le_of_ble_eq_true rfl) fun K e1 e2 e3 e4 hnm C Q => ?_
  subst e1; subst e2; subst e3
  exact w_J23_init_b0m C E Q (by exact hnm) S a0 a1 h

def n_J23_valueOf_b23 (S : St) (x0 : Int32) : Option (Option Nat × St) :=
  nwB S (cO 16 [vI 0]) 1 fun q1 S2 =>
  gd (q1).isSome <|
  bn (n_J23_init S2 q1 x0) fun _ S3 =>
  some (q1, S3)
def n_J23_valueOf (S : St) (x0 : Int32) : Option (Option Nat × St) :=
  if x0 < (-128 : Int32) then
    n_J23_valueOf_b23 S x0
  else
    if (127 : Int32) < x0 then
      n_J23_valueOf_b23 S x0
    else
      (gca S (x0 + (128 : Int32))).bind fun v1 =>
      some (v1, S)
theorem w_J23_valueOf_b23 {K : KT} {r : Option Nat} {S1 : St} (C : GC K RJ23 cJ23_valueOf 1 4 []) (E : EL (kΓ K) (kHI K) (kl K)) (Q : GQ K (some (Jvm.ClassFile.FieldType.object "java/lang/Integer")) (.inl (some (vR r))) S1) : ∀ (S : St) (x0 : Int32), n_J23_valueOf_b23 S x0 = some (r, S1) → G K 1 S 23 [(0, vI x0)] [] := by
  intro S x0 hd
  unfold n_J23_valueOf_b23 at hd
  refine g_new C gk_J23 (fun j hj => gdf_J23 j hj) q1235 q1236 q122 dJ23_valueOf_23 hd (fun q1 S2 hd => ?_)
  refine g_dup C dJ23_valueOf_26 rfl ?_
  refine g_iload_n C dJ23_valueOf_27 rfl 0 rfl ?_
  obtain ⟨hg, hd⟩ := gd_some hd
  obtain ⟨_, S3, hc, hd⟩ := bn_some hd
  refine g_cI_n (n := 1) C q1237 q1238 q122 q1239 rfl (by decide +kernel) (by decide) (by decide) dJ23_valueOf_28 (As := [vI x0]) (rest := [vR q1]) rfl rfl (Nat.le_of_ble_eq_true rfl) hg (m_J23_init E hc) ?_
  exact g_aret C Q (Or.inl ⟨_, rfl⟩) hd dJ23_valueOf_31
theorem w_J23_valueOf_b0m {K : KT} {r : Option Nat} {S1 : St} (C : GC K RJ23 cJ23_valueOf 1 4 []) (E : EL (kΓ K) (kHI K) (kl K)) (Q : GQ K (some (Jvm.ClassFile.FieldType.object "java/lang/Integer")) (.inl (some (vR r))) S1) : ∀ (S : St) (x0 : Int32), n_J23_valueOf S x0 = some (r, S1) → G K 1 S 0 [(0, vI x0)] [] := by
  intro S x0 hd
  unfold n_J23_valueOf at hd
  refine g_iload_n C dJ23_valueOf_0 rfl 0 rfl ?_
  refine g_bipush (v := (-128)) C dJ23_valueOf_1 (by decide) ?_
  refine g_icmp_lt (tgt := 23) C dJ23_valueOf_3 (by decide) hd (fun hd => ?_) (fun hd => ?_)
  · refine g_sub [0] rfl ?_
    exact w_J23_valueOf_b23 C E Q _ _ hd
  · refine g_iload_n C dJ23_valueOf_6 rfl 0 rfl ?_
    refine g_getsI C (fun lv => (C lv).hk.2.2.2.2.2.2.2.1.1) q1231 rfl dJ23_valueOf_7 ?_
    refine g_icmp_gt (tgt := 23) C dJ23_valueOf_10 (by decide) hd (fun hd => ?_) (fun hd => ?_)
    · refine g_sub [0] rfl ?_
      exact w_J23_valueOf_b23 C E Q _ _ hd
    · refine g_getsR C 5 (fun lv => (C lv).hk.2.2.2.2.2.2.2.1.2.1) q1233 rfl dJ23_valueOf_13 ?_
      refine g_iload_n C dJ23_valueOf_16 rfl 0 rfl ?_
      refine g_sipush (v := 128) C dJ23_valueOf_17 (by decide) ?_
      refine g_iadd C dJ23_valueOf_20 ?_
      obtain ⟨v1, hv1, hd⟩ := Option.bind_eq_some_iff.mp hd
      refine g_aaldC C dJ23_valueOf_21 hv1 ?_
      exact g_aret C Q (Or.inl ⟨_, rfl⟩) hd dJ23_valueOf_22
theorem m_J23_valueOf {Γ : GG} {HI : St → Heap → Prop} {l : Launch} (E : EL Γ HI l) {S : St} {a0 : Int32} {r : Option Nat} {S1 : St} (h : n_J23_valueOf S a0 = some (r, S1)) : MS Γ HI l yJ23_valueOf cJ23_valueOf 1 (some (Jvm.ClassFile.FieldType.object "java/lang/Integer")) 4 S [vI a0] (.inl (some (vR r))) S1 := by
  refine MS_of E.ntr E.hx (by decide +kernel) rfl (Nat.le_of_ble_eq_true rfl) fun K e1 e2 e3 e4 hnm C Q => ?_
  subst e1; subst e2; subst e3
  exact w_J23_valueOf_b0m C E Q S a0 h

def n_J23_intValue (S : St) (x0 : Option Nat) : Option (Int32 × St) :=
  (gbv S x0).bind fun v1 =>
  rtI id (Jvm.ClassFile.FieldType.int) v1 S
theorem w_J23_intValue_b0m {K : KT} {r : Int32} {S1 : St} (C : GC K RJ23 cJ23_intValue 1 2 []) (E : EL (kΓ K) (kHI K) (kl K)) (Q : GQ K (some (Jvm.ClassFile.FieldType.int)) (.inl (some (vI r))) S1) : ∀ (S : St) (x0 : Option Nat), n_J23_intValue S x0 = some (r, S1) → G K 1 S 0 [(0, vR x0)] [] := by
  intro S x0 hd
  unfold n_J23_intValue at hd
  refine g_aload_n C dJ23_intValue_0 rfl 0 rfl ?_
  obtain ⟨v1, hv1, hd⟩ := Option.bind_eq_some_iff.mp hd
  refine g_fldB C q1244 rfl dJ23_intValue_1 hv1 ?_
  exact g_iret C Q hd dJ23_intValue_4
theorem m_J23_intValue {Γ : GG} {HI : St → Heap → Prop} {l : Launch} (E : EL Γ HI l) {S : St} {a0 : Option Nat} {r : Int32} {S1 : St} (h : n_J23_intValue S a0 = some (r, S1)) : MS Γ HI l yJ23_intValue cJ23_intValue 1 (some (Jvm.ClassFile.FieldType.int)) 2 S [vR a0] (.inl (some (vI r))) S1 := by
  refine MS_of E.ntr E.hx (by decide +kernel) rfl (Nat.le_of_ble_eq_true rfl) fun K e1 e2 e3 e4 hnm C Q => ?_
  subst e1; subst e2; subst e3
  exact w_J23_intValue_b0m C E Q S a0 h

