def n_J0_init (S : St) (x0 : Option Nat) : Option (Unit × St) :=
  gd (x0).isSome <|
  some ((), S)
theorem w_J0_init_b0m {K : KT} {r : Unit} {S1 : St} (C : GC K RJ0 cJ0_init 1 2 []) (E : EL (kΓ K) (kHI K) (kl K)) (Q : GQ K none (.inl none) S1) (hnm : kLv K → (kme K).name = "<init>") : ∀ (S : St) (x0 : Option Nat), n_J0_init S x0 = some (r, S1) → G K 1 S 0 [(0, vR x0)] [] := by
  intro S x0 hd
  unfold n_J0_init at hd
  refine g_aload_n C dJ0_init_0 rfl 0 rfl ?_
  obtain ⟨hg, hd⟩ := gd_some hd
  refine g_objInit C q162 q149 q150 (by decide) dJ0_init_1 hg (Nat.le_of_ble_eq_true rfl) ?_
  exact g_vret C Q hd dJ0_init_4
theorem m_J0_init {Γ : GG} {HI : St → Heap → Prop} {l : Launch} (E : EL Γ HI l) {S : St} {a0 : Option Nat} {r : Unit} {S1 : St} (h : n_J0_init S a0 = some (r, S1)) : MS Γ HI l yJ0_init cJ0_init 1 none 2 S [vR a0] (.inl none) S1 := by
  refine MS_of E.ntr E.hx (by decide +kernel) rfl (Nat.le_of_ble_eq_true rfl) fun K e1 e2 e3 e4 hnm C Q => ?_
  subst e1; subst e2; subst e3
  exact w_J0_init_b0m C E Q (by exact hnm) S a0 h

def n_J1_init_8 (S : St) (x0 : Option Nat) : Option (Unit × St) :=
  gd (x0).isSome <|
  bn (n_J0_init S x0) fun _ S1 =>
  (pI .int S1 x0 8 0 (0 : Int32)).bind fun S3 =>
  some ((), S3)
theorem w_J1_init_8_b0m {K : KT} {r : Unit} {S1 : St} (C : GC K RJ1 cJ1_init 1 3 []) (E : EL (kΓ K) (kHI K) (kl K)) (Q : GQ K none (.inl none) S1) (hnm : kLv K → (kme K).name = "<init>") : ∀ (S : St) (x0 : Option Nat), n_J1_init_8 S x0 = some (r, S1) → G K 1 S 0 [(0, vR x0)] [] := by
  intro S x0 hd
  unfold n_J1_init_8 at hd
  refine g_aload_n C dJ1_init_0 rfl 0 rfl ?_
  obtain ⟨hg, hd⟩ := gd_some hd
  obtain ⟨_, S1, hc, hd⟩ := bn_some hd
  refine g_cI_n (n := 0) C q159 q160 q96 q161 rfl (by decide +kernel) (by decide) (by decide) dJ1_init_1 (As := []) (rest := []) rfl rfl (Nat.le_of_ble_eq_true rfl) hg (m_J0_init E hc) ?_
  refine g_aload_n C dJ1_init_4 rfl 0 rfl ?_
  refine g_iconst (v := 0) C dJ1_init_5 (by decide) ?_
  obtain ⟨S3, hS3, hd⟩ := Option.bind_eq_some_iff.mp hd
  refine g_put C gk_J2 (k := 0) (by decide) q169 (Or.inl rfl) rfl dJ1_init_6 (gfit_ok (pI_v hS3).1).1 (gfit_ok (pI_v hS3).1).2 (pI_v hS3).2 ?_
  exact g_vret C Q hd dJ1_init_9
theorem m_J1_init_8 {Γ : GG} {HI : St → Heap → Prop} {l : Launch} (E : EL Γ HI l) {S : St} {a0 : Option Nat} {r : Unit} {S1 : St} (h : n_J1_init_8 S a0 = some (r, S1)) : MS Γ HI l yJ1_init cJ1_init 1 none 3 S [vR a0] (.inl none) S1 := by
  refine MS_of E.ntr E.hx (by decide +kernel) rfl (Nat.le_of_ble_eq_true rfl) fun K e1 e2 e3 e4 hnm C Q => ?_
  subst e1; subst e2; subst e3
  exact w_J1_init_8_b0m C E Q (by exact hnm) S a0 h

def n_J2_init (S : St) (x0 : Option Nat) : Option (Unit × St) :=
  gd (x0).isSome <|
  bn (n_J1_init_8 S x0) fun _ S1 =>
  (pR S1 x0 8 1 (some (S1.2.2.2 0))).bind fun S3 =>
  some ((), S3)
theorem w_J2_init_b0m {K : KT} {r : Unit} {S1 : St} (C : GC K RJ2 cJ2_init 1 4 []) (E : EL (kΓ K) (kHI K) (kl K)) (Q : GQ K none (.inl none) S1) (hnm : kLv K → (kme K).name = "<init>") : ∀ (S : St) (x0 : Option Nat), n_J2_init S x0 = some (r, S1) → G K 1 S 0 [(0, vR x0)] [] := by
  intro S x0 hd
  unfold n_J2_init at hd
  refine g_aload_n C dJ2_init_0 rfl 0 rfl ?_
  obtain ⟨hg, hd⟩ := gd_some hd
  obtain ⟨_, S1, hc, hd⟩ := bn_some hd
  refine g_cI_n (n := 0) C q156 q157 q97 q158 rfl (by decide +kernel) (by decide) (by decide) dJ2_init_1 (As := []) (rest := []) rfl rfl (Nat.le_of_ble_eq_true rfl) hg (m_J1_init_8 E hc) ?_
  refine g_aload_n C dJ2_init_4 rfl 0 rfl ?_
  refine g_getsR C 0 (fun lv => (C lv).hk.2.2.2.2.1.1) q163 rfl dJ2_init_5 ?_
  obtain ⟨S3, hS3, hd⟩ := Option.bind_eq_some_iff.mp hd
  refine g_put C gk_J2 (k := 1) (by decide) q165 (Or.inl rfl) rfl dJ2_init_8 (fit_ref _ (Or.inr ⟨_, rfl⟩)).1 (fit_ref _ (Or.inr ⟨_, rfl⟩)).2 hS3 ?_
  exact g_vret C Q hd dJ2_init_11
theorem m_J2_init {Γ : GG} {HI : St → Heap → Prop} {l : Launch} (E : EL Γ HI l) {S : St} {a0 : Option Nat} {r : Unit} {S1 : St} (h : n_J2_init S a0 = some (r, S1)) : MS Γ HI l yJ2_init cJ2_init 1 none 4 S [vR a0] (.inl none) S1 := by
  refine MS_of E.ntr E.hx (by decide +kernel) rfl (Nat.le_of_ble_eq_true rfl) fun K e1 e2 e3 e4 hnm C Q => ?_
  subst e1; subst e2; subst e3
  exact w_J2_init_b0m C E Q (by exact hnm) S a0 h

def n_J7_max (S : St) (x0 : Int32) (x1 : Int32) : Option (Int32 × St) :=
  if x0 < x1 then
    rtI id (Jvm.ClassFile.FieldType.int) x1 S
  else
    rtI id (Jvm.ClassFile.FieldType.int) x0 S
theorem w_J7_max_b0m {K : KT} {r : Int32} {S1 : St} (C : GC K RJ7 cJ7_max 2 2 []) (E : EL (kΓ K) (kHI K) (kl K)) (Q : GQ K (some (Jvm.ClassFile.FieldType.int)) (.inl (some (vI r))) S1) : ∀ (S : St) (x0 : Int32) (x1 : Int32), n_J7_max S x0 x1 = some (r, S1) → G K 2 S 0 [(0, vI x0), (1, vI x1)] [] := by
  intro S x0 x1 hd
  unfold n_J7_max at hd
  refine g_iload_n C dJ7_max_0 rfl 0 rfl ?_
  refine g_iload_n C dJ7_max_1 rfl 1 rfl ?_
  refine g_icmp_lt (tgt := 9) C dJ7_max_2 (by decide) hd (fun hd => ?_) (fun hd => ?_)
  · refine g_iload_n C dJ7_max_9 rfl 1 rfl ?_
    exact g_iret C Q hd dJ7_max_10
  · refine g_iload_n C dJ7_max_5 rfl 0 rfl ?_
    refine g_goto (tgt := 10) C dJ7_max_6 (by decide) ?_
    exact g_iret C Q hd dJ7_max_10
theorem m_J7_max {Γ : GG} {HI : St → Heap → Prop} {l : Launch} (E : EL Γ HI l) {S : St} {a0 : Int32} {a1 : Int32} {r : Int32} {S1 : St} (h : n_J7_max S a0 a1 = some (r, S1)) : MS Γ HI l yJ7_max cJ7_max 2 (some (Jvm.ClassFile.FieldType.int)) 2 S [vI a0, vI a1] (.inl (some (vI r))) S1 := by
  refine MS_of E.ntr E.hx (by decide +kernel) rfl (Nat.le_of_ble_eq_true rfl) fun K e1 e2 e3 e4 hnm C Q => ?_
  subst e1; subst e2; subst e3
  exact w_J7_max_b0m C E Q S a0 a1 h

def n_J6_newLength (S : St) (x0 : Int32) (x1 : Int32) (x2 : Int32) : Option (Int32 × St) :=
  bn (n_J7_max S x1 x2) fun v2 S1 =>
  if (x0 + v2) ≤ (0 : Int32) then
    none
  else
    if (2147483639 : Int32) < (x0 + v2) then
      none
    else
      rtI id (Jvm.ClassFile.FieldType.int) (x0 + v2) S1
theorem w_J6_newLength_b0m {K : KT} {r : Int32} {S1 : St} (C : GC K RJ6 cJ6_newLength 4 3 []) (E : EL (kΓ K) (kHI K) (kl K)) (Q : GQ K (some (Jvm.ClassFile.FieldType.int)) (.inl (some (vI r))) S1) : ∀ (S : St) (x0 : Int32) (x1 : Int32) (x2 : Int32), n_J6_newLength S x0 x1 x2 = some (r, S1) → G K 4 S 0 [(0, vI x0), (1, vI x1), (2, vI x2)] [] := by
  intro S x0 x1 x2 hd
  unfold n_J6_newLength at hd
  refine g_iload_n C dJ6_newLength_0 rfl 0 rfl ?_
  refine g_iload_n C dJ6_newLength_1 rfl 1 rfl ?_
  refine g_iload_n C dJ6_newLength_2 rfl 2 rfl ?_
  obtain ⟨v2, S1, hc, hd⟩ := bn_some hd
  refine g_cS_v (n := 2) C q298 q299 q104 q300 (by decide +kernel) (by decide) (by decide) dJ6_newLength_3 (As := [vI x1, vI x2]) (rest := [vI x0]) rfl rfl (Nat.le_of_ble_eq_true rfl) (m_J7_max E hc) ?_
  refine g_iadd C dJ6_newLength_6 ?_
  refine g_istore_n (L' := [(3, vI (x0 + v2)), (0, vI x0), (1, vI x1), (2, vI x2)]) C dJ6_newLength_7 rfl (by decide) rfl ?_
  refine g_iconst (v := 0) C dJ6_newLength_8 (by decide) ?_
  refine g_iload_n C dJ6_newLength_9 rfl 0 rfl ?_
  refine g_icmp_ge (tgt := 21) C dJ6_newLength_10 (by decide) hd (fun hd => ?_) (fun hd => ?_)
  · refine g_iload_n C dJ6_newLength_21 rfl 1 rfl ?_
    refine g_iload_n C dJ6_newLength_22 rfl 2 rfl ?_
    cases hd
  · refine g_iload_n C dJ6_newLength_13 rfl 0 rfl ?_
    refine g_ldc C q301 dJ6_newLength_14 ?_
    refine g_icmp_gt (tgt := 21) C dJ6_newLength_16 (by decide) hd (fun hd => ?_) (fun hd => ?_)
    · refine g_iload_n C dJ6_newLength_21 rfl 1 rfl ?_
      refine g_iload_n C dJ6_newLength_22 rfl 2 rfl ?_
      cases hd
    · refine g_iload_n C dJ6_newLength_19 rfl 0 rfl ?_
      exact g_iret C Q hd dJ6_newLength_20
theorem m_J6_newLength {Γ : GG} {HI : St → Heap → Prop} {l : Launch} (E : EL Γ HI l) {S : St} {a0 : Int32} {a1 : Int32} {a2 : Int32} {r : Int32} {S1 : St} (h : n_J6_newLength S a0 a1 a2 = some (r, S1)) : MS Γ HI l yJ6_newLength cJ6_newLength 4 (some (Jvm.ClassFile.FieldType.int)) 3 S [vI a0, vI a1, vI a2] (.inl (some (vI r))) S1 := by
  refine MS_of E.ntr E.hx (by decide +kernel) rfl (Nat.le_of_ble_eq_true rfl) fun K e1 e2 e3 e4 hnm C Q => ?_
  subst e1; subst e2; subst e3
  exact w_J6_newLength_b0m C E Q S a0 a1 a2 h

def n_J7_min (S : St) (x0 : Int32) (x1 : Int32) : Option (Int32 × St) :=
  if x1 < x0 then
    rtI id (Jvm.ClassFile.FieldType.int) x1 S
  else
    rtI id (Jvm.ClassFile.FieldType.int) x0 S
theorem w_J7_min_b0m {K : KT} {r : Int32} {S1 : St} (C : GC K RJ7 cJ7_min 2 2 []) (E : EL (kΓ K) (kHI K) (kl K)) (Q : GQ K (some (Jvm.ClassFile.FieldType.int)) (.inl (some (vI r))) S1) : ∀ (S : St) (x0 : Int32) (x1 : Int32), n_J7_min S x0 x1 = some (r, S1) → G K 2 S 0 [(0, vI x0), (1, vI x1)] [] := by
  intro S x0 x1 hd
  unfold n_J7_min at hd
  refine g_iload_n C dJ7_min_0 rfl 0 rfl ?_
  refine g_iload_n C dJ7_min_1 rfl 1 rfl ?_
  refine g_icmp_gt (tgt := 9) C dJ7_min_2 (by decide) hd (fun hd => ?_) (fun hd => ?_)
  · refine g_iload_n C dJ7_min_9 rfl 1 rfl ?_
    exact g_iret C Q hd dJ7_min_10
  · refine g_iload_n C dJ7_min_5 rfl 0 rfl ?_
    refine g_goto (tgt := 10) C dJ7_min_6 (by decide) ?_
    exact g_iret C Q hd dJ7_min_10
theorem m_J7_min {Γ : GG} {HI : St → Heap → Prop} {l : Launch} (E : EL Γ HI l) {S : St} {a0 : Int32} {a1 : Int32} {r : Int32} {S1 : St} (h : n_J7_min S a0 a1 = some (r, S1)) : MS Γ HI l yJ7_min cJ7_min 2 (some (Jvm.ClassFile.FieldType.int)) 2 S [vI a0, vI a1] (.inl (some (vI r))) S1 := by
  refine MS_of E.ntr E.hx (by decide +kernel) rfl (Nat.le_of_ble_eq_true rfl) fun K e1 e2 e3 e4 hnm C Q => ?_
  subst e1; subst e2; subst e3
  exact w_J7_min_b0m C E Q S a0 a1 h

def n_J8_copyOf_2 (S : St) (x0 : Option Nat) (x1 : Int32) (x2 : Option Nat) : Option (Option Nat × St) :=
  if x2 = (some (S.2.2.2 4)) then
    naB S 4 x1 fun q1 S2 =>
    (aLn S2 x0).bind fun v3 =>
    bn (n_J7_min S2 v3 x1) fun v5 S4 =>
    (acp S4 x0 (0 : Int32) q1 (0 : Int32) v5).bind fun S6 =>
    some (q1, S6)
  else
    none
theorem w_J8_copyOf_2_b0m {K : KT} {r : Option Nat} {S1 : St} (C : GC K RJ8 cJ8_copyOf_2 4 3 []) (E : EL (kΓ K) (kHI K) (kl K)) (Q : GQ K (some (Jvm.ClassFile.FieldType.array (Jvm.ClassFile.FieldType.object "java/lang/Object"))) (.inl (some (vR r))) S1) : ∀ (S : St) (x0 : Option Nat) (x1 : Int32) (x2 : Option Nat), n_J8_copyOf_2 S x0 x1 x2 = some (r, S1) → G K 4 S 0 [(0, vR x0), (1, vI x1), (2, vR x2)] [] := by
  intro S x0 x1 x2 hd
  unfold n_J8_copyOf_2 at hd
  refine g_aload_n C dJ8_copyOf_2_0 rfl 2 rfl ?_
  refine g_ldcM C q343 dJ8_copyOf_2_1 ?_
  refine g_acmp_ne (tgt := 13) C dJ8_copyOf_2_3 (by decide) hd (fun hd => ?_) (fun hd => ?_)
  · refine g_aload_n C dJ8_copyOf_2_13 rfl 2 rfl ?_
    cases hd
  · refine g_iload_n C dJ8_copyOf_2_6 rfl 1 rfl ?_
    refine g_anew C 4 (Or.inl ⟨rfl, rfl⟩) q345 dJ8_copyOf_2_7 hd (fun q1 S2 hd => ?_)
    refine g_goto (tgt := 24) C dJ8_copyOf_2_10 (by decide) ?_
    refine g_astore_n (L' := [(3, vR q1), (0, vR x0), (1, vI x1), (2, vR x2)]) C dJ8_copyOf_2_24 rfl (by decide) rfl ?_
    refine g_aload_n C dJ8_copyOf_2_25 rfl 1 rfl ?_
    refine g_iconst (v := 0) C dJ8_copyOf_2_26 (by decide) ?_
    refine g_aload_n C dJ8_copyOf_2_27 rfl 0 rfl ?_
    refine g_iconst (v := 0) C dJ8_copyOf_2_28 (by decide) ?_
    refine g_aload_n C dJ8_copyOf_2_29 rfl 1 rfl ?_
    obtain ⟨v3, hv3, hd⟩ := Option.bind_eq_some_iff.mp hd
    refine g_alen C dJ8_copyOf_2_30 hv3 ?_
    refine g_iload_n C dJ8_copyOf_2_31 rfl 2 rfl ?_
    obtain ⟨v5, S4, hc, hd⟩ := bn_some hd
    refine g_cS_v (n := 2) C q346 q347 q104 q348 (by decide +kernel) (by decide) (by decide) dJ8_copyOf_2_32 (As := [vI v3, vI x1]) (rest := [vI (0 : Int32), vR q1, vI (0 : Int32), vR x0]) rfl rfl (Nat.le_of_ble_eq_true rfl) (m_J7_min E hc) ?_
    obtain ⟨S6, hS6, hd⟩ := Option.bind_eq_some_iff.mp hd
    refine g_acopy C q349 (by decide) (Nat.le_of_ble_eq_true rfl) dJ8_copyOf_2_35 hS6 ?_
    refine g_aload_n C dJ8_copyOf_2_38 rfl 0 rfl ?_
    exact g_aret C Q (Or.inr ⟨_, rfl⟩) hd dJ8_copyOf_2_39
theorem m_J8_copyOf_2 {Γ : GG} {HI : St → Heap → Prop} {l : Launch} (E : EL Γ HI l) {S : St} {a0 : Option Nat} {a1 : Int32} {a2 : Option Nat} {r : Option Nat} {S1 : St} (h : n_J8_copyOf_2 S a0 a1 a2 = some (r, S1)) : MS Γ HI l yJ8_copyOf_2 cJ8_copyOf_2 4 (some (Jvm.ClassFile.FieldType.array (Jvm.ClassFile.FieldType.object "java/lang/Object"))) 3 S [vR a0, vI a1, vR a2] (.inl (some (vR r))) S1 := by
  refine MS_of E.ntr E.hx (by decide +kernel) rfl (Nat.le_of_ble_eq_true rfl) fun K e1 e2 e3 e4 hnm C Q => ?_
  subst e1; subst e2; subst e3
  exact w_J8_copyOf_2_b0m C E Q S a0 a1 a2 h

def n_J8_copyOf (S : St) (x0 : Option Nat) (x1 : Int32) : Option (Option Nat × St) :=
  gd (gcsA S x0) <|
  bn (n_J8_copyOf_2 S x0 x1 (some (S.2.2.2 4))) fun v2 S1 =>
  some (v2, S1)
theorem w_J8_copyOf_b0m {K : KT} {r : Option Nat} {S1 : St} (C : GC K RJ8 cJ8_copyOf 2 4 []) (E : EL (kΓ K) (kHI K) (kl K)) (Q : GQ K (some (Jvm.ClassFile.FieldType.array (Jvm.ClassFile.FieldType.object "java/lang/Object"))) (.inl (some (vR r))) S1) : ∀ (S : St) (x0 : Option Nat) (x1 : Int32), n_J8_copyOf S x0 x1 = some (r, S1) → G K 2 S 0 [(0, vR x0), (1, vI x1)] [] := by
  intro S x0 x1 hd
  unfold n_J8_copyOf at hd
  refine g_aload_n C dJ8_copyOf_0 rfl 0 rfl ?_
  refine g_iload_n C dJ8_copyOf_1 rfl 1 rfl ?_
  refine g_aload_n C dJ8_copyOf_2 rfl 0 rfl ?_
  refine g_getC C q308 (by decide) (Nat.le_of_ble_eq_true rfl) dJ8_copyOf_3 hd (fun hd => ?_)
  obtain ⟨v2, S1, hc, hd⟩ := bn_some hd
  refine g_cS_v (n := 3) C q340 q341 q105 q342 (by decide +kernel) (by decide) (by decide) dJ8_copyOf_6 (As := [vR x0, vI x1, vR (some (S.2.2.2 4))]) (rest := []) rfl rfl (Nat.le_of_ble_eq_true rfl) (m_J8_copyOf_2 E hc) ?_
  exact g_aret C Q (Or.inr ⟨_, rfl⟩) hd dJ8_copyOf_9
theorem m_J8_copyOf {Γ : GG} {HI : St → Heap → Prop} {l : Launch} (E : EL Γ HI l) {S : St} {a0 : Option Nat} {a1 : Int32} {r : Option Nat} {S1 : St} (h : n_J8_copyOf S a0 a1 = some (r, S1)) : MS Γ HI l yJ8_copyOf cJ8_copyOf 2 (some (Jvm.ClassFile.FieldType.array (Jvm.ClassFile.FieldType.object "java/lang/Object"))) 4 S [vR a0, vI a1] (.inl (some (vR r))) S1 := by
  refine MS_of E.ntr E.hx (by decide +kernel) rfl (Nat.le_of_ble_eq_true rfl) fun K e1 e2 e3 e4 hnm C Q => ?_
  subst e1; subst e2; subst e3
  exact w_J8_copyOf_b0m C E Q S a0 a1 h

def n_J2_grow_2_b20 (S : St) (x0 : Option Nat) (x1 : Int32) (x2 : Int32) : Option (Option Nat × St) :=
  bn (n_J6_newLength S x2 (x1 - x2) (x2 >>> ((1 : Int32) &&& 31))) fun v2 S1 =>
  (gR S1 x0 8 1).bind fun v3 =>
  bn (n_J8_copyOf S1 v3 v2) fun v5 S4 =>
  (pR S4 x0 8 1 v5).bind fun S6 =>
  some (v5, S6)
def n_J2_grow_2 (S : St) (x0 : Option Nat) (x1 : Int32) : Option (Option Nat × St) :=
  (gR S x0 8 1).bind fun v1 =>
  (aLn S v1).bind fun v2 =>
  if 0 < v2 then
    n_J2_grow_2_b20 S x0 x1 v2
  else
    (gR S x0 8 1).bind fun v3 =>
    if v3 = (some (S.2.2.2 0)) then
      bn (n_J7_max S (10 : Int32) x1) fun v5 S4 =>
      naB S4 4 v5 fun q6 S7 =>
      (pR S7 x0 8 1 q6).bind fun S8 =>
      some (q6, S8)
    else
      n_J2_grow_2_b20 S x0 x1 v2
theorem w_J2_grow_2_b20 {K : KT} {r : Option Nat} {S1 : St} (C : GC K RJ2 cJ2_grow_2 4 5 []) (E : EL (kΓ K) (kHI K) (kl K)) (Q : GQ K (some (Jvm.ClassFile.FieldType.array (Jvm.ClassFile.FieldType.object "java/lang/Object"))) (.inl (some (vR r))) S1) : ∀ (S : St) (x0 : Option Nat) (x1 : Int32) (x2 : Int32), n_J2_grow_2_b20 S x0 x1 x2 = some (r, S1) → G K 4 S 20 [(0, vR x0), (1, vI x1), (2, vI x2)] [] := by
  intro S x0 x1 x2 hd
  unfold n_J2_grow_2_b20 at hd
  refine g_iload_n C dJ2_grow_2_20 rfl 2 rfl ?_
  refine g_iload_n C dJ2_grow_2_21 rfl 1 rfl ?_
  refine g_iload_n C dJ2_grow_2_22 rfl 2 rfl ?_
  refine g_isub C dJ2_grow_2_23 ?_
  refine g_iload_n C dJ2_grow_2_24 rfl 2 rfl ?_
  refine g_iconst (v := 1) C dJ2_grow_2_25 (by decide) ?_
  refine g_ishr C dJ2_grow_2_26 ?_
  obtain ⟨v2, S1, hc, hd⟩ := bn_some hd
  refine g_cS_v (n := 3) C q295 q296 q103 q297 (by decide +kernel) (by decide) (by decide) dJ2_grow_2_27 (As := [vI x2, vI (x1 - x2), vI (x2 >>> ((1 : Int32) &&& 31))]) (rest := []) rfl rfl (Nat.le_of_ble_eq_true rfl) (m_J6_newLength E hc) ?_
  refine g_istore_n (L' := [(3, vI v2), (0, vR x0), (1, vI x1), (2, vI x2)]) C dJ2_grow_2_30 rfl (by decide) rfl ?_
  refine g_aload_n C dJ2_grow_2_31 rfl 1 rfl ?_
  refine g_aload_n C dJ2_grow_2_32 rfl 1 rfl ?_
  obtain ⟨v3, hv3, hd⟩ := Option.bind_eq_some_iff.mp hd
  refine g_fld C gk_J2 (k := 1) (by decide) q165 (Or.inl rfl) dJ2_grow_2_33 (gR_v hv3) ?_
  refine g_iload_n C dJ2_grow_2_36 rfl 0 rfl ?_
  obtain ⟨v5, S4, hc, hd⟩ := bn_some hd
  refine g_cS_v (n := 2) C q305 q306 q105 q307 (by decide +kernel) (by decide) (by decide) dJ2_grow_2_37 (As := [vR v3, vI v2]) (rest := [vR x0]) rfl rfl (Nat.le_of_ble_eq_true rfl) (m_J8_copyOf E hc) ?_
  refine g_dup_x1 C dJ2_grow_2_40 rfl rfl ?_
  obtain ⟨S6, hS6, hd⟩ := Option.bind_eq_some_iff.mp hd
  refine g_put C gk_J2 (k := 1) (by decide) q165 (Or.inl rfl) rfl dJ2_grow_2_41 (fit_ref _ (Or.inr ⟨_, rfl⟩)).1 (fit_ref _ (Or.inr ⟨_, rfl⟩)).2 hS6 ?_
  exact g_aret C Q (Or.inr ⟨_, rfl⟩) hd dJ2_grow_2_44
theorem w_J2_grow_2_b0m {K : KT} {r : Option Nat} {S1 : St} (C : GC K RJ2 cJ2_grow_2 4 5 []) (E : EL (kΓ K) (kHI K) (kl K)) (Q : GQ K (some (Jvm.ClassFile.FieldType.array (Jvm.ClassFile.FieldType.object "java/lang/Object"))) (.inl (some (vR r))) S1) : ∀ (S : St) (x0 : Option Nat) (x1 : Int32), n_J2_grow_2 S x0 x1 = some (r, S1) → G K 4 S 0 [(0, vR x0), (1, vI x1)] [] := by
  intro S x0 x1 hd
  unfold n_J2_grow_2 at hd
  refine g_aload_n C dJ2_grow_2_0 rfl 0 rfl ?_
  obtain ⟨v1, hv1, hd⟩ := Option.bind_eq_some_iff.mp hd
  refine g_fld C gk_J2 (k := 1) (by decide) q165 (Or.inl rfl) dJ2_grow_2_1 (gR_v hv1) ?_
  obtain ⟨v2, hv2, hd⟩ := Option.bind_eq_some_iff.mp hd
  refine g_alen C dJ2_grow_2_4 hv2 ?_
  refine g_istore_n (L' := [(2, vI v2), (0, vR x0), (1, vI x1)]) C dJ2_grow_2_5 rfl (by decide) rfl ?_
  refine g_iload_n C dJ2_grow_2_6 rfl 0 rfl ?_
  refine g_if_gt (tgt := 20) C dJ2_grow_2_7 (by decide) hd (fun hd => ?_) (fun hd => ?_)
  · refine g_sub [1, 2, 0] rfl ?_
    exact w_J2_grow_2_b20 C E Q _ _ _ _ hd
  · refine g_aload_n C dJ2_grow_2_10 rfl 1 rfl ?_
    obtain ⟨v3, hv3, hd⟩ := Option.bind_eq_some_iff.mp hd
    refine g_fld C gk_J2 (k := 1) (by decide) q165 (Or.inl rfl) dJ2_grow_2_11 (gR_v hv3) ?_
    refine g_getsR C 0 (fun lv => (C lv).hk.2.2.2.2.1.1) q163 rfl dJ2_grow_2_14 ?_
    refine g_acmp_eq (tgt := 45) C dJ2_grow_2_17 (by decide) hd (fun hd => ?_) (fun hd => ?_)
    · refine g_aload_n C dJ2_grow_2_45 rfl 1 rfl ?_
      refine g_bipush (v := 10) C dJ2_grow_2_46 (by decide) ?_
      refine g_iload_n C dJ2_grow_2_48 rfl 2 rfl ?_
      obtain ⟨v5, S4, hc, hd⟩ := bn_some hd
      refine g_cS_v (n := 2) C q352 q299 q104 q300 (by decide +kernel) (by decide) (by decide) dJ2_grow_2_49 (As := [vI (10 : Int32), vI x1]) (rest := [vR x0]) rfl rfl (Nat.le_of_ble_eq_true rfl) (m_J7_max E hc) ?_
      refine g_anew C 4 (Or.inl ⟨rfl, rfl⟩) q353 dJ2_grow_2_52 hd (fun q6 S7 hd => ?_)
      refine g_dup_x1 C dJ2_grow_2_55 rfl rfl ?_
      obtain ⟨S8, hS8, hd⟩ := Option.bind_eq_some_iff.mp hd
      refine g_put C gk_J2 (k := 1) (by decide) q165 (Or.inl rfl) rfl dJ2_grow_2_56 (fit_ref _ (Or.inr ⟨_, rfl⟩)).1 (fit_ref _ (Or.inr ⟨_, rfl⟩)).2 hS8 ?_
      exact g_aret C Q (Or.inr ⟨_, rfl⟩) hd dJ2_grow_2_59
    · refine g_sub [1, 2, 0] rfl ?_
      exact w_J2_grow_2_b20 C E Q _ _ _ _ hd
theorem m_J2_grow_2 {Γ : GG} {HI : St → Heap → Prop} {l : Launch} (E : EL Γ HI l) {S : St} {a0 : Option Nat} {a1 : Int32} {r : Option Nat} {S1 : St} (h : n_J2_grow_2 S a0 a1 = some (r, S1)) : MS Γ HI l yJ2_grow_2 cJ2_grow_2 4 (some (Jvm.ClassFile.FieldType.array (Jvm.ClassFile.FieldType.object "java/lang/Object"))) 5 S [vR a0, vI a1] (.inl (some (vR r))) S1 := by
  refine MS_of E.ntr E.hx (by decide +kernel) rfl (Nat.le_of_ble_eq_true rfl) fun K e1 e2 e3 e4 hnm C Q => ?_
  subst e1; subst e2; subst e3
  exact w_J2_grow_2_b0m C E Q S a0 a1 h

def n_J2_grow (S : St) (x0 : Option Nat) : Option (Option Nat × St) :=
  (gI S x0 8 2).bind fun v1 =>
  gd (grc S x0 8) <|
  bn (n_J2_grow_2 S x0 (v1 + (1 : Int32))) fun v3 S2 =>
  some (v3, S2)
theorem w_J2_grow_b0m {K : KT} {r : Option Nat} {S1 : St} (C : GC K RJ2 cJ2_grow 1 6 []) (E : EL (kΓ K) (kHI K) (kl K)) (Q : GQ K (some (Jvm.ClassFile.FieldType.array (Jvm.ClassFile.FieldType.object "java/lang/Object"))) (.inl (some (vR r))) S1) : ∀ (S : St) (x0 : Option Nat), n_J2_grow S x0 = some (r, S1) → G K 1 S 0 [(0, vR x0)] [] := by
  intro S x0 hd
  unfold n_J2_grow at hd
  refine g_aload_n C dJ2_grow_0 rfl 0 rfl ?_
  refine g_aload_n C dJ2_grow_1 rfl 0 rfl ?_
  obtain ⟨v1, hv1, hd⟩ := Option.bind_eq_some_iff.mp hd
  refine g_fld C gk_J2 (k := 2) (by decide) q168 (Or.inl rfl) dJ2_grow_2 (gI_v hv1) ?_
  refine g_iconst (v := 1) C dJ2_grow_5 (by decide) ?_
  refine g_iadd C dJ2_grow_6 ?_
  obtain ⟨hg, hd⟩ := gd_some hd
  obtain ⟨v3, S2, hc, hd⟩ := bn_some hd
  refine g_cV_v (n := 1) C (gk_J2).1 q291 q293 qs3 q98 q294 (by decide +kernel) (by decide) (by decide) dJ2_grow_7 (As := [vI (v1 + (1 : Int32))]) (rest := []) rfl rfl (Nat.le_of_ble_eq_true rfl) hg (m_J2_grow_2 E hc) ?_
  exact g_aret C Q (Or.inr ⟨_, rfl⟩) hd dJ2_grow_10
theorem m_J2_grow {Γ : GG} {HI : St → Heap → Prop} {l : Launch} (E : EL Γ HI l) {S : St} {a0 : Option Nat} {r : Option Nat} {S1 : St} (h : n_J2_grow S a0 = some (r, S1)) : MS Γ HI l yJ2_grow cJ2_grow 1 (some (Jvm.ClassFile.FieldType.array (Jvm.ClassFile.FieldType.object "java/lang/Object"))) 6 S [vR a0] (.inl (some (vR r))) S1 := by
  refine MS_of E.ntr E.hx (by decide +kernel) rfl (Nat.le_of_ble_eq_true rfl) fun K e1 e2 e3 e4 hnm C Q => ?_
  subst e1; subst e2; subst e3
  exact w_J2_grow_b0m C E Q S a0 h

def n_J2_add_2_b11 (S : St) (x0 : Option Nat) (x1 : Option Nat) (x2 : Option Nat) (x3 : Int32) : Option (Unit × St) :=
  (sR S x2 4 x3 x1).bind fun S1 =>
  (pI .int S1 x0 8 2 (x3 + (1 : Int32))).bind fun S2 =>
  some ((), S2)
def n_J2_add_2 (S : St) (x0 : Option Nat) (x1 : Option Nat) (x2 : Option Nat) (x3 : Int32) : Option (Unit × St) :=
  (aLn S x2).bind fun v1 =>
  if x3 = v1 then
    gd (grc S x0 8) <|
    bn (n_J2_grow S x0) fun v3 S2 =>
    n_J2_add_2_b11 S2 x0 x1 v3 x3
  else
    n_J2_add_2_b11 S x0 x1 x2 x3
theorem w_J2_add_2_b11 {K : KT} {r : Unit} {S1 : St} (C : GC K RJ2 cJ2_add_2 4 7 []) (E : EL (kΓ K) (kHI K) (kl K)) (Q : GQ K none (.inl none) S1) : ∀ (S : St) (x0 : Option Nat) (x1 : Option Nat) (x2 : Option Nat) (x3 : Int32), n_J2_add_2_b11 S x0 x1 x2 x3 = some (r, S1) → G K 4 S 11 [(0, vR x0), (1, vR x1), (2, vR x2), (3, vI x3)] [] := by
  intro S x0 x1 x2 x3 hd
  unfold n_J2_add_2_b11 at hd
  refine g_aload_n C dJ2_add_2_11 rfl 2 rfl ?_
  refine g_iload_n C dJ2_add_2_12 rfl 3 rfl ?_
  refine g_aload_n C dJ2_add_2_13 rfl 1 rfl ?_
  obtain ⟨S1, hS1, hd⟩ := Option.bind_eq_some_iff.mp hd
  refine g_aast C 4 (by decide) dJ2_add_2_14 hS1 ?_
  refine g_aload_n C dJ2_add_2_15 rfl 0 rfl ?_
  refine g_iload_n C dJ2_add_2_16 rfl 3 rfl ?_
  refine g_iconst (v := 1) C dJ2_add_2_17 (by decide) ?_
  refine g_iadd C dJ2_add_2_18 ?_
  obtain ⟨S2, hS2, hd⟩ := Option.bind_eq_some_iff.mp hd
  refine g_put C gk_J2 (k := 2) (by decide) q168 (Or.inl rfl) rfl dJ2_add_2_19 (gfit_ok (pI_v hS2).1).1 (gfit_ok (pI_v hS2).1).2 (pI_v hS2).2 ?_
  exact g_vret C Q hd dJ2_add_2_22
theorem w_J2_add_2_b0m {K : KT} {r : Unit} {S1 : St} (C : GC K RJ2 cJ2_add_2 4 7 []) (E : EL (kΓ K) (kHI K) (kl K)) (Q : GQ K none (.inl none) S1) : ∀ (S : St) (x0 : Option Nat) (x1 : Option Nat) (x2 : Option Nat) (x3 : Int32), n_J2_add_2 S x0 x1 x2 x3 = some (r, S1) → G K 4 S 0 [(0, vR x0), (1, vR x1), (2, vR x2), (3, vI x3)] [] := by
  intro S x0 x1 x2 x3 hd
  unfold n_J2_add_2 at hd
  refine g_iload_n C dJ2_add_2_0 rfl 3 rfl ?_
  refine g_aload_n C dJ2_add_2_1 rfl 2 rfl ?_
  obtain ⟨v1, hv1, hd⟩ := Option.bind_eq_some_iff.mp hd
  refine g_alen C dJ2_add_2_2 hv1 ?_
  refine g_icmp_ne (tgt := 11) C dJ2_add_2_3 (by decide) hd (fun hd => ?_) (fun hd => ?_)
  · refine g_sub [0, 1, 2, 3] rfl ?_
    exact w_J2_add_2_b11 C E Q _ _ _ _ _ hd
  · refine g_aload_n C dJ2_add_2_6 rfl 0 rfl ?_
    obtain ⟨hg, hd⟩ := gd_some hd
    obtain ⟨v3, S2, hc, hd⟩ := bn_some hd
    refine g_cV_v (n := 0) C (gk_J2).1 q287 q289 qs2 q98 q290 (by decide +kernel) (by decide) (by decide) dJ2_add_2_7 (As := []) (rest := []) rfl rfl (Nat.le_of_ble_eq_true rfl) hg (m_J2_grow E hc) ?_
    refine g_astore_n (L' := [(2, vR v3), (0, vR x0), (1, vR x1), (3, vI x3)]) C dJ2_add_2_10 rfl (by decide) rfl ?_
    refine g_sub [1, 2, 0, 3] rfl ?_
    exact w_J2_add_2_b11 C E Q _ _ _ _ _ hd
theorem m_J2_add_2 {Γ : GG} {HI : St → Heap → Prop} {l : Launch} (E : EL Γ HI l) {S : St} {a0 : Option Nat} {a1 : Option Nat} {a2 : Option Nat} {a3 : Int32} {r : Unit} {S1 : St} (h : n_J2_add_2 S a0 a1 a2 a3 = some (r, S1)) : MS Γ HI l yJ2_add_2 cJ2_add_2 4 none 7 S [vR a0, vR a1, vR a2, vI a3] (.inl none) S1 := by
  refine MS_of E.ntr E.hx (by decide +kernel) rfl (Nat.le_of_ble_eq_true rfl) fun K e1 e2 e3 e4 hnm C Q => ?_
  subst e1; subst e2; subst e3
  exact w_J2_add_2_b0m C E Q S a0 a1 a2 a3 h

def n_J2_add (S : St) (x0 : Option Nat) (x1 : Option Nat) : Option (Int32 × St) :=
  (gI S x0 8 0).bind fun v1 =>
  (pI .int S x0 8 0 (v1 + (1 : Int32))).bind fun S2 =>
  (gR S2 x0 8 1).bind fun v3 =>
  (gI S2 x0 8 2).bind fun v4 =>
  gd (grc S2 x0 8) <|
  bn (n_J2_add_2 S2 x0 x1 v3 v4) fun _ S5 =>
  rtI id (Jvm.ClassFile.FieldType.boolean) (1 : Int32) S5
theorem w_J2_add_b0m {K : KT} {r : Int32} {S1 : St} (C : GC K RJ2 cJ2_add 2 8 []) (E : EL (kΓ K) (kHI K) (kl K)) (Q : GQ K (some (Jvm.ClassFile.FieldType.boolean)) (.inl (some (vI r))) S1) : ∀ (S : St) (x0 : Option Nat) (x1 : Option Nat), n_J2_add S x0 x1 = some (r, S1) → G K 2 S 0 [(0, vR x0), (1, vR x1)] [] := by
  intro S x0 x1 hd
  unfold n_J2_add at hd
  refine g_aload_n C dJ2_add_0 rfl 0 rfl ?_
  refine g_dup C dJ2_add_1 rfl ?_
  obtain ⟨v1, hv1, hd⟩ := Option.bind_eq_some_iff.mp hd
  refine g_fld C gk_J2 (k := 0) (by decide) q176 (Or.inr q173) dJ2_add_2 (gI_v hv1) ?_
  refine g_iconst (v := 1) C dJ2_add_5 (by decide) ?_
  refine g_iadd C dJ2_add_6 ?_
  obtain ⟨S2, hS2, hd⟩ := Option.bind_eq_some_iff.mp hd
  refine g_put C gk_J2 (k := 0) (by decide) q176 (Or.inr q173) rfl dJ2_add_7 (gfit_ok (pI_v hS2).1).1 (gfit_ok (pI_v hS2).1).2 (pI_v hS2).2 ?_
  refine g_aload_n C dJ2_add_10 rfl 0 rfl ?_
  refine g_aload_n C dJ2_add_11 rfl 1 rfl ?_
  refine g_aload_n C dJ2_add_12 rfl 0 rfl ?_
  obtain ⟨v3, hv3, hd⟩ := Option.bind_eq_some_iff.mp hd
  refine g_fld C gk_J2 (k := 1) (by decide) q165 (Or.inl rfl) dJ2_add_13 (gR_v hv3) ?_
  refine g_aload_n C dJ2_add_16 rfl 0 rfl ?_
  obtain ⟨v4, hv4, hd⟩ := Option.bind_eq_some_iff.mp hd
  refine g_fld C gk_J2 (k := 2) (by decide) q168 (Or.inl rfl) dJ2_add_17 (gI_v hv4) ?_
  obtain ⟨hg, hd⟩ := gd_some hd
  obtain ⟨_, S5, hc, hd⟩ := bn_some hd
  refine g_cV_n (n := 3) C (gk_J2).1 q283 q285 qs1 q98 q286 (by decide +kernel) (by decide) (by decide) dJ2_add_20 (As := [vR x1, vR v3, vI v4]) (rest := []) rfl rfl (Nat.le_of_ble_eq_true rfl) hg (m_J2_add_2 E hc) ?_
  refine g_iconst (v := 1) C dJ2_add_23 (by decide) ?_
  exact g_iret C Q hd dJ2_add_24
theorem m_J2_add {Γ : GG} {HI : St → Heap → Prop} {l : Launch} (E : EL Γ HI l) {S : St} {a0 : Option Nat} {a1 : Option Nat} {r : Int32} {S1 : St} (h : n_J2_add S a0 a1 = some (r, S1)) : MS Γ HI l yJ2_add cJ2_add 2 (some (Jvm.ClassFile.FieldType.boolean)) 8 S [vR a0, vR a1] (.inl (some (vI r))) S1 := by
  refine MS_of E.ntr E.hx (by decide +kernel) rfl (Nat.le_of_ble_eq_true rfl) fun K e1 e2 e3 e4 hnm C Q => ?_
  subst e1; subst e2; subst e3
  exact w_J2_add_b0m C E Q S a0 a1 h

def n_J2_size (S : St) (x0 : Option Nat) : Option (Int32 × St) :=
  (gI S x0 8 2).bind fun v1 =>
  rtI id (Jvm.ClassFile.FieldType.int) v1 S
theorem w_J2_size_b0m {K : KT} {r : Int32} {S1 : St} (C : GC K RJ2 cJ2_size 1 2 []) (E : EL (kΓ K) (kHI K) (kl K)) (Q : GQ K (some (Jvm.ClassFile.FieldType.int)) (.inl (some (vI r))) S1) : ∀ (S : St) (x0 : Option Nat), n_J2_size S x0 = some (r, S1) → G K 1 S 0 [(0, vR x0)] [] := by
  intro S x0 hd
  unfold n_J2_size at hd
  refine g_aload_n C dJ2_size_0 rfl 0 rfl ?_
  obtain ⟨v1, hv1, hd⟩ := Option.bind_eq_some_iff.mp hd
  refine g_fld C gk_J2 (k := 2) (by decide) q168 (Or.inl rfl) dJ2_size_1 (gI_v hv1) ?_
  exact g_iret C Q hd dJ2_size_4
theorem m_J2_size {Γ : GG} {HI : St → Heap → Prop} {l : Launch} (E : EL Γ HI l) {S : St} {a0 : Option Nat} {r : Int32} {S1 : St} (h : n_J2_size S a0 = some (r, S1)) : MS Γ HI l yJ2_size cJ2_size 1 (some (Jvm.ClassFile.FieldType.int)) 2 S [vR a0] (.inl (some (vI r))) S1 := by
  refine MS_of E.ntr E.hx (by decide +kernel) rfl (Nat.le_of_ble_eq_true rfl) fun K e1 e2 e3 e4 hnm C Q => ?_
  subst e1; subst e2; subst e3
  exact w_J2_size_b0m C E Q S a0 h

def n_J17_checkIndex (S : St) (x0 : Int32) (x1 : Int32) (x2 : Option Nat) : Option (Int32 × St) :=
  if x0 < 0 then
    none
  else
    if x0 < x1 then
      rtI id (Jvm.ClassFile.FieldType.int) x0 S
    else
      none
theorem w_J17_checkIndex_b0m {K : KT} {r : Int32} {S1 : St} (C : GC K RJ17 cJ17_checkIndex 3 2 []) (E : EL (kΓ K) (kHI K) (kl K)) (Q : GQ K (some (Jvm.ClassFile.FieldType.int)) (.inl (some (vI r))) S1) : ∀ (S : St) (x0 : Int32) (x1 : Int32) (x2 : Option Nat), n_J17_checkIndex S x0 x1 x2 = some (r, S1) → G K 3 S 0 [(0, vI x0), (1, vI x1), (2, vR x2)] [] := by
  intro S x0 x1 x2 hd
  unfold n_J17_checkIndex at hd
  refine g_iload_n C dJ17_checkIndex_0 rfl 0 rfl ?_
  refine g_if_lt (tgt := 9) C dJ17_checkIndex_1 (by decide) hd (fun hd => ?_) (fun hd => ?_)
  · refine g_aload_n C dJ17_checkIndex_9 rfl 2 rfl ?_
    refine g_iload_n C dJ17_checkIndex_10 rfl 0 rfl ?_
    refine g_iload_n C dJ17_checkIndex_11 rfl 1 rfl ?_
    cases hd
  · refine g_iload_n C dJ17_checkIndex_4 rfl 0 rfl ?_
    refine g_iload_n C dJ17_checkIndex_5 rfl 1 rfl ?_
    refine g_icmp_lt (tgt := 16) C dJ17_checkIndex_6 (by decide) hd (fun hd => ?_) (fun hd => ?_)
    · refine g_iload_n C dJ17_checkIndex_16 rfl 0 rfl ?_
      exact g_iret C Q hd dJ17_checkIndex_17
    · refine g_aload_n C dJ17_checkIndex_9 rfl 2 rfl ?_
      refine g_iload_n C dJ17_checkIndex_10 rfl 0 rfl ?_
      refine g_iload_n C dJ17_checkIndex_11 rfl 1 rfl ?_
      cases hd
theorem m_J17_checkIndex {Γ : GG} {HI : St → Heap → Prop} {l : Launch} (E : EL Γ HI l) {S : St} {a0 : Int32} {a1 : Int32} {a2 : Option Nat} {r : Int32} {S1 : St} (h : n_J17_checkIndex S a0 a1 a2 = some (r, S1)) : MS Γ HI l yJ17_checkIndex cJ17_checkIndex 3 (some (Jvm.ClassFile.FieldType.int)) 2 S [vI a0, vI a1, vR a2] (.inl (some (vI r))) S1 := by
  refine MS_of E.ntr E.hx (by decide +kernel) rfl (Nat.le_of_ble_eq_true rfl) fun K e1 e2 e3 e4 hnm C Q => ?_
  subst e1; subst e2; subst e3
  exact w_J17_checkIndex_b0m C E Q S a0 a1 a2 h

def n_J16_checkIndex (S : St) (x0 : Int32) (x1 : Int32) : Option (Int32 × St) :=
  bn (n_J17_checkIndex S x0 x1 none) fun v2 S1 =>
  rtI id (Jvm.ClassFile.FieldType.int) v2 S1
theorem w_J16_checkIndex_b0m {K : KT} {r : Int32} {S1 : St} (C : GC K RJ16 cJ16_checkIndex 2 3 []) (E : EL (kΓ K) (kHI K) (kl K)) (Q : GQ K (some (Jvm.ClassFile.FieldType.int)) (.inl (some (vI r))) S1) : ∀ (S : St) (x0 : Int32) (x1 : Int32), n_J16_checkIndex S x0 x1 = some (r, S1) → G K 2 S 0 [(0, vI x0), (1, vI x1)] [] := by
  intro S x0 x1 hd
  unfold n_J16_checkIndex at hd
  refine g_iload_n C dJ16_checkIndex_0 rfl 0 rfl ?_
  refine g_iload_n C dJ16_checkIndex_1 rfl 1 rfl ?_
  refine g_null C dJ16_checkIndex_2 ?_
  obtain ⟨v2, S1, hc, hd⟩ := bn_some hd
  refine g_cS_v (n := 3) C q452 q453 q116 q454 (by decide +kernel) (by decide) (by decide) dJ16_checkIndex_3 (As := [vI x0, vI x1, vR none]) (rest := []) rfl rfl (Nat.le_of_ble_eq_true rfl) (m_J17_checkIndex E hc) ?_
  exact g_iret C Q hd dJ16_checkIndex_6
theorem m_J16_checkIndex {Γ : GG} {HI : St → Heap → Prop} {l : Launch} (E : EL Γ HI l) {S : St} {a0 : Int32} {a1 : Int32} {r : Int32} {S1 : St} (h : n_J16_checkIndex S a0 a1 = some (r, S1)) : MS Γ HI l yJ16_checkIndex cJ16_checkIndex 2 (some (Jvm.ClassFile.FieldType.int)) 3 S [vI a0, vI a1] (.inl (some (vI r))) S1 := by
  refine MS_of E.ntr E.hx (by decide +kernel) rfl (Nat.le_of_ble_eq_true rfl) fun K e1 e2 e3 e4 hnm C Q => ?_
  subst e1; subst e2; subst e3
  exact w_J16_checkIndex_b0m C E Q S a0 a1 h

def n_J2_elementData (S : St) (x0 : Option Nat) (x1 : Int32) : Option (Option Nat × St) :=
  (gR S x0 8 1).bind fun v1 =>
  (aR S v1 4 x1).bind fun v2 =>
  some (v2, S)
theorem w_J2_elementData_b0m {K : KT} {r : Option Nat} {S1 : St} (C : GC K RJ2 cJ2_elementData 2 2 []) (E : EL (kΓ K) (kHI K) (kl K)) (Q : GQ K (some (Jvm.ClassFile.FieldType.object "java/lang/Object")) (.inl (some (vR r))) S1) : ∀ (S : St) (x0 : Option Nat) (x1 : Int32), n_J2_elementData S x0 x1 = some (r, S1) → G K 2 S 0 [(0, vR x0), (1, vI x1)] [] := by
  intro S x0 x1 hd
  unfold n_J2_elementData at hd
  refine g_aload_n C dJ2_elementData_0 rfl 0 rfl ?_
  obtain ⟨v1, hv1, hd⟩ := Option.bind_eq_some_iff.mp hd
  refine g_fld C gk_J2 (k := 1) (by decide) q165 (Or.inl rfl) dJ2_elementData_1 (gR_v hv1) ?_
  refine g_iload_n C dJ2_elementData_4 rfl 1 rfl ?_
  obtain ⟨v2, hv2, hd⟩ := Option.bind_eq_some_iff.mp hd
  refine g_aald C 4 (by decide) dJ2_elementData_5 hv2 ?_
  exact g_aret C Q (Or.inl ⟨_, rfl⟩) hd dJ2_elementData_6
theorem m_J2_elementData {Γ : GG} {HI : St → Heap → Prop} {l : Launch} (E : EL Γ HI l) {S : St} {a0 : Option Nat} {a1 : Int32} {r : Option Nat} {S1 : St} (h : n_J2_elementData S a0 a1 = some (r, S1)) : MS Γ HI l yJ2_elementData cJ2_elementData 2 (some (Jvm.ClassFile.FieldType.object "java/lang/Object")) 2 S [vR a0, vI a1] (.inl (some (vR r))) S1 := by
  refine MS_of E.ntr E.hx (by decide +kernel) rfl (Nat.le_of_ble_eq_true rfl) fun K e1 e2 e3 e4 hnm C Q => ?_
  subst e1; subst e2; subst e3
  exact w_J2_elementData_b0m C E Q S a0 a1 h

def n_J2_get (S : St) (x0 : Option Nat) (x1 : Int32) : Option (Option Nat × St) :=
  (gI S x0 8 2).bind fun v1 =>
  bn (n_J16_checkIndex S x1 v1) fun v3 S2 =>
  gd (grc S2 x0 8) <|
  bn (n_J2_elementData S2 x0 x1) fun v5 S4 =>
  some (v5, S4)
theorem w_J2_get_b0m {K : KT} {r : Option Nat} {S1 : St} (C : GC K RJ2 cJ2_get 2 4 []) (E : EL (kΓ K) (kHI K) (kl K)) (Q : GQ K (some (Jvm.ClassFile.FieldType.object "java/lang/Object")) (.inl (some (vR r))) S1) : ∀ (S : St) (x0 : Option Nat) (x1 : Int32), n_J2_get S x0 x1 = some (r, S1) → G K 2 S 0 [(0, vR x0), (1, vI x1)] [] := by
  intro S x0 x1 hd
  unfold n_J2_get at hd
  refine g_iload_n C dJ2_get_0 rfl 1 rfl ?_
  refine g_aload_n C dJ2_get_1 rfl 0 rfl ?_
  obtain ⟨v1, hv1, hd⟩ := Option.bind_eq_some_iff.mp hd
  refine g_fld C gk_J2 (k := 2) (by decide) q168 (Or.inl rfl) dJ2_get_2 (gI_v hv1) ?_
  obtain ⟨v3, S2, hc, hd⟩ := bn_some hd
  refine g_cS_v (n := 2) C q449 q450 q115 q451 (by decide +kernel) (by decide) (by decide) dJ2_get_5 (As := [vI x1, vI v1]) (rest := []) rfl rfl (Nat.le_of_ble_eq_true rfl) (m_J16_checkIndex E hc) ?_
  refine g_pop C dJ2_get_8 rfl ?_
  refine g_aload_n C dJ2_get_9 rfl 0 rfl ?_
  refine g_iload_n C dJ2_get_10 rfl 1 rfl ?_
  obtain ⟨hg, hd⟩ := gd_some hd
  obtain ⟨v5, S4, hc, hd⟩ := bn_some hd
  refine g_cV_v (n := 1) C (gk_J2).1 q455 q456 q457 q98 q458 (by decide +kernel) (by decide) (by decide) dJ2_get_11 (As := [vI x1]) (rest := []) rfl rfl (Nat.le_of_ble_eq_true rfl) hg (m_J2_elementData E hc) ?_
  exact g_aret C Q (Or.inl ⟨_, rfl⟩) hd dJ2_get_14
theorem m_J2_get {Γ : GG} {HI : St → Heap → Prop} {l : Launch} (E : EL Γ HI l) {S : St} {a0 : Option Nat} {a1 : Int32} {r : Option Nat} {S1 : St} (h : n_J2_get S a0 a1 = some (r, S1)) : MS Γ HI l yJ2_get cJ2_get 2 (some (Jvm.ClassFile.FieldType.object "java/lang/Object")) 4 S [vR a0, vI a1] (.inl (some (vR r))) S1 := by
  refine MS_of E.ntr E.hx (by decide +kernel) rfl (Nat.le_of_ble_eq_true rfl) fun K e1 e2 e3 e4 hnm C Q => ?_
  subst e1; subst e2; subst e3
  exact w_J2_get_b0m C E Q S a0 a1 h

def n_J26_init (S : St) (x0 : Option Nat) (x1 : Option Nat) : Option (Unit × St) :=
  (pR S x0 12 3 x1).bind fun S1 =>
  gd (x0).isSome <|
  (pI .int S1 x0 12 1 (-1 : Int32)).bind fun S2 =>
  (gR S2 x0 12 3).bind fun v3 =>
  (gI S2 v3 8 0).bind fun v4 =>
  (pI .int S2 x0 12 2 v4).bind fun S5 =>
  some ((), S5)
theorem w_J26_init_b0m {K : KT} {r : Unit} {S1 : St} (C : GC K RJ26 cJ26_init 2 2 []) (E : EL (kΓ K) (kHI K) (kl K)) (Q : GQ K none (.inl none) S1) (hnm : kLv K → (kme K).name = "<init>") : ∀ (S : St) (x0 : Option Nat) (x1 : Option Nat), n_J26_init S x0 x1 = some (r, S1) → G K 2 S 0 [(0, vR x0), (1, vR x1)] [] := by
  intro S x0 x1 hd
  unfold n_J26_init at hd
  refine g_aload_n C dJ26_init_0 rfl 0 rfl ?_
  refine g_aload_n C dJ26_init_1 rfl 1 rfl ?_
  obtain ⟨S1, hS1, hd⟩ := Option.bind_eq_some_iff.mp hd
  refine g_putF C gk_J26 (k := 3) (by decide) q831 rfl rfl hnm rfl dJ26_init_2 (fit_ref _ (Or.inl ⟨_, rfl⟩)).1 (fit_ref _ (Or.inl ⟨_, rfl⟩)).2 hS1 ?_
  refine g_aload_n C dJ26_init_5 rfl 0 rfl ?_
  obtain ⟨hg, hd⟩ := gd_some hd
  refine g_objInit C q825 q149 q150 (by decide) dJ26_init_6 hg (Nat.le_of_ble_eq_true rfl) ?_
  refine g_aload_n C dJ26_init_9 rfl 0 rfl ?_
  refine g_iconst (v := (-1)) C dJ26_init_10 (by decide) ?_
  obtain ⟨S2, hS2, hd⟩ := Option.bind_eq_some_iff.mp hd
  refine g_put C gk_J26 (k := 1) (by decide) q829 (Or.inl rfl) rfl dJ26_init_11 (gfit_ok (pI_v hS2).1).1 (gfit_ok (pI_v hS2).1).2 (pI_v hS2).2 ?_
  refine g_aload_n C dJ26_init_14 rfl 0 rfl ?_
  refine g_aload_n C dJ26_init_15 rfl 0 rfl ?_
  obtain ⟨v3, hv3, hd⟩ := Option.bind_eq_some_iff.mp hd
  refine g_fld C gk_J26 (k := 3) (by decide) q831 (Or.inl rfl) dJ26_init_16 (gR_v hv3) ?_
  obtain ⟨v4, hv4, hd⟩ := Option.bind_eq_some_iff.mp hd
  refine g_fld C gk_J2 (k := 0) (by decide) q172 (Or.inr q173) dJ26_init_19 (gI_v hv4) ?_
  obtain ⟨S5, hS5, hd⟩ := Option.bind_eq_some_iff.mp hd
  refine g_put C gk_J26 (k := 2) (by decide) q830 (Or.inl rfl) rfl dJ26_init_22 (gfit_ok (pI_v hS5).1).1 (gfit_ok (pI_v hS5).1).2 (pI_v hS5).2 ?_
  exact g_vret C Q hd dJ26_init_25
theorem m_J26_init {Γ : GG} {HI : St → Heap → Prop} {l : Launch} (E : EL Γ HI l) {S : St} {a0 : Option Nat} {a1 : Option Nat} {r : Unit} {S1 : St} (h : n_J26_init S a0 a1 = some (r, S1)) : MS Γ HI l yJ26_init cJ26_init 2 none 2 S [vR a0, vR a1] (.inl none) S1 := by
  refine MS_of E.ntr E.hx (by decide +kernel) rfl (Nat.le_of_ble_eq_true rfl) fun K e1 e2 e3 e4 hnm C Q => ?_
  subst e1; subst e2; subst e3
  exact w_J26_init_b0m C E Q (by exact hnm) S a0 a1 h

def n_J2_iterator (S : St) (x0 : Option Nat) : Option (Option Nat × St) :=
  nwB S (cO 12 [vI 0, vI 0, vI 0, vR none]) 4 fun q1 S2 =>
  gd (q1).isSome <|
  bn (n_J26_init S2 q1 x0) fun _ S3 =>
  some (q1, S3)
theorem w_J2_iterator_b0m {K : KT} {r : Option Nat} {S1 : St} (C : GC K RJ2 cJ2_iterator 1 3 []) (E : EL (kΓ K) (kHI K) (kl K)) (Q : GQ K (some (Jvm.ClassFile.FieldType.object "java/util/Iterator")) (.inl (some (vR r))) S1) : ∀ (S : St) (x0 : Option Nat), n_J2_iterator S x0 = some (r, S1) → G K 1 S 0 [(0, vR x0)] [] := by
  intro S x0 hd
  unfold n_J2_iterator at hd
  refine g_new C gk_J26 (fun j hj => gdf_J26 j hj) q820 q821 q125 dJ2_iterator_0 hd (fun q1 S2 hd => ?_)
  refine g_dup C dJ2_iterator_3 rfl ?_
  refine g_aload_n C dJ2_iterator_4 rfl 0 rfl ?_
  obtain ⟨hg, hd⟩ := gd_some hd
  obtain ⟨_, S3, hc, hd⟩ := bn_some hd
  refine g_cI_n (n := 1) C q822 q823 q125 q824 rfl (by decide +kernel) (by decide) (by decide) dJ2_iterator_5 (As := [vR x0]) (rest := [vR q1]) rfl rfl (Nat.le_of_ble_eq_true rfl) hg (m_J26_init E hc) ?_
  exact g_aret C Q (Or.inl ⟨_, rfl⟩) hd dJ2_iterator_8
theorem m_J2_iterator {Γ : GG} {HI : St → Heap → Prop} {l : Launch} (E : EL Γ HI l) {S : St} {a0 : Option Nat} {r : Option Nat} {S1 : St} (h : n_J2_iterator S a0 = some (r, S1)) : MS Γ HI l yJ2_iterator cJ2_iterator 1 (some (Jvm.ClassFile.FieldType.object "java/util/Iterator")) 3 S [vR a0] (.inl (some (vR r))) S1 := by
  refine MS_of E.ntr E.hx (by decide +kernel) rfl (Nat.le_of_ble_eq_true rfl) fun K e1 e2 e3 e4 hnm C Q => ?_
  subst e1; subst e2; subst e3
  exact w_J2_iterator_b0m C E Q S a0 h

def n_J2_clear_b27 : Nat → St → Option Nat → Int32 → Int32 → Option (Unit × St)
  | 0 => fun _ _ _ _ => none
  | n + 1 => fun S x1 x2 x3 =>
    if x2 ≤ x3 then
      some ((), S)
    else
      (sR S x1 4 x3 none).bind fun S1 =>
      (n_J2_clear_b27 n) S1 x1 x2 (x3 + 1)
def n_J2_clear (S : St) (x0 : Option Nat) : Option (Unit × St) :=
  (gI S x0 8 0).bind fun v1 =>
  (pI .int S x0 8 0 (v1 + (1 : Int32))).bind fun S2 =>
  (gR S2 x0 8 1).bind fun v3 =>
  (gI S2 x0 8 2).bind fun v4 =>
  (pI .int S2 x0 8 2 (0 : Int32)).bind fun S5 =>
  n_J2_clear_b27 FU S5 v3 v4 (0 : Int32)
theorem w_J2_clear_b27 {K : KT} {r : Unit} {S1 : St} (C : GC K RJ2 cJ2_clear 4 2 []) (E : EL (kΓ K) (kHI K) (kl K)) (Q : GQ K none (.inl none) S1) : ∀ (n : Nat) (S : St) (x1 : Option Nat) (x2 : Int32) (x3 : Int32), n_J2_clear_b27 n S x1 x2 x3 = some (r, S1) → G K 4 S 27 [(1, vR x1), (2, vI x2), (3, vI x3)] [] := by
  intro n
  induction n with
  | zero => intro S x1 x2 x3 hd; cases hd
  | succ n ih =>
    intro S x1 x2 x3 hd
    unfold n_J2_clear_b27 at hd
    refine g_iload_n C dJ2_clear_27 rfl 2 rfl ?_
    refine g_iload_n C dJ2_clear_28 rfl 1 rfl ?_
    refine g_icmp_ge (tgt := 42) C dJ2_clear_29 (by decide) hd (fun hd => ?_) (fun hd => ?_)
    · exact g_vret C Q hd dJ2_clear_42
    · refine g_aload_n C dJ2_clear_32 rfl 0 rfl ?_
      refine g_iload_n C dJ2_clear_33 rfl 2 rfl ?_
      refine g_null C dJ2_clear_34 ?_
      obtain ⟨S1, hS1, hd⟩ := Option.bind_eq_some_iff.mp hd
      refine g_aast C 4 (by decide) dJ2_clear_35 hS1 ?_
      refine g_iinc (v := x3 + 1) (L' := [(3, vI (x3 + 1)), (1, vR x1), (2, vI x2)]) C dJ2_clear_36 2 rfl rfl (by decide) rfl ?_
      refine g_goto (tgt := 27) C dJ2_clear_39 (by decide) ?_
      refine g_sub [1, 2, 0] rfl ?_
      exact ih _ _ _ _ hd
theorem w_J2_clear_b0m {K : KT} {r : Unit} {S1 : St} (C : GC K RJ2 cJ2_clear 4 2 []) (E : EL (kΓ K) (kHI K) (kl K)) (Q : GQ K none (.inl none) S1) : ∀ (S : St) (x0 : Option Nat), n_J2_clear S x0 = some (r, S1) → G K 4 S 0 [(0, vR x0)] [] := by
  intro S x0 hd
  unfold n_J2_clear at hd
  refine g_aload_n C dJ2_clear_0 rfl 0 rfl ?_
  refine g_dup C dJ2_clear_1 rfl ?_
  obtain ⟨v1, hv1, hd⟩ := Option.bind_eq_some_iff.mp hd
  refine g_fld C gk_J2 (k := 0) (by decide) q176 (Or.inr q173) dJ2_clear_2 (gI_v hv1) ?_
  refine g_iconst (v := 1) C dJ2_clear_5 (by decide) ?_
  refine g_iadd C dJ2_clear_6 ?_
  obtain ⟨S2, hS2, hd⟩ := Option.bind_eq_some_iff.mp hd
  refine g_put C gk_J2 (k := 0) (by decide) q176 (Or.inr q173) rfl dJ2_clear_7 (gfit_ok (pI_v hS2).1).1 (gfit_ok (pI_v hS2).1).2 (pI_v hS2).2 ?_
  refine g_aload_n C dJ2_clear_10 rfl 0 rfl ?_
  obtain ⟨v3, hv3, hd⟩ := Option.bind_eq_some_iff.mp hd
  refine g_fld C gk_J2 (k := 1) (by decide) q165 (Or.inl rfl) dJ2_clear_11 (gR_v hv3) ?_
  refine g_astore_n (L' := [(1, vR v3), (0, vR x0)]) C dJ2_clear_14 rfl (by decide) rfl ?_
  refine g_aload_n C dJ2_clear_15 rfl 1 rfl ?_
  obtain ⟨v4, hv4, hd⟩ := Option.bind_eq_some_iff.mp hd
  refine g_fld C gk_J2 (k := 2) (by decide) q168 (Or.inl rfl) dJ2_clear_16 (gI_v hv4) ?_
  refine g_istore_n (L' := [(2, vI v4), (1, vR v3), (0, vR x0)]) C dJ2_clear_19 rfl (by decide) rfl ?_
  refine g_aload_n C dJ2_clear_20 rfl 2 rfl ?_
  refine g_iconst (v := 0) C dJ2_clear_21 (by decide) ?_
  refine g_dup_x1 C dJ2_clear_22 rfl rfl ?_
  obtain ⟨S5, hS5, hd⟩ := Option.bind_eq_some_iff.mp hd
  refine g_put C gk_J2 (k := 2) (by decide) q168 (Or.inl rfl) rfl dJ2_clear_23 (gfit_ok (pI_v hS5).1).1 (gfit_ok (pI_v hS5).1).2 (pI_v hS5).2 ?_
  refine g_istore_n (L' := [(3, vI (0 : Int32)), (2, vI v4), (1, vR v3), (0, vR x0)]) C dJ2_clear_26 rfl (by decide) rfl ?_
  refine g_sub [2, 1, 0] rfl ?_
  exact w_J2_clear_b27 C E Q FU _ _ _ _ hd
theorem m_J2_clear {Γ : GG} {HI : St → Heap → Prop} {l : Launch} (E : EL Γ HI l) {S : St} {a0 : Option Nat} {r : Unit} {S1 : St} (h : n_J2_clear S a0 = some (r, S1)) : MS Γ HI l yJ2_clear cJ2_clear 4 none 2 S [vR a0] (.inl none) S1 := by
  refine MS_of E.ntr E.hx (by decide +kernel) rfl (Nat.le_of_ble_eq_true rfl) fun K e1 e2 e3 e4 hnm C Q => ?_
  subst e1; subst e2; subst e3
  exact w_J2_clear_b0m C E Q S a0 h

def n_J2_fastRemove_b34 (S : St) (x0 : Option Nat) (x1 : Option Nat) (x3 : Int32) : Option (Unit × St) :=
  (pI .int S x0 8 2 x3).bind fun S1 =>
  (sR S1 x1 4 x3 none).bind fun S2 =>
  some ((), S2)
def n_J2_fastRemove (S : St) (x0 : Option Nat) (x1 : Option Nat) (x2 : Int32) : Option (Unit × St) :=
  (gI S x0 8 0).bind fun v1 =>
  (pI .int S x0 8 0 (v1 + (1 : Int32))).bind fun S2 =>
  (gI S2 x0 8 2).bind fun v3 =>
  if (v3 - (1 : Int32)) ≤ x2 then
    n_J2_fastRemove_b34 S2 x0 x1 (v3 - (1 : Int32))
  else
    (acp S2 x1 (x2 + (1 : Int32)) x1 x2 ((v3 - (1 : Int32)) - x2)).bind fun S4 =>
    n_J2_fastRemove_b34 S4 x0 x1 (v3 - (1 : Int32))
theorem w_J2_fastRemove_b34 {K : KT} {r : Unit} {S1 : St} (C : GC K RJ2 cJ2_fastRemove 4 2 []) (E : EL (kΓ K) (kHI K) (kl K)) (Q : GQ K none (.inl none) S1) : ∀ (S : St) (x0 : Option Nat) (x1 : Option Nat) (x3 : Int32), n_J2_fastRemove_b34 S x0 x1 x3 = some (r, S1) → G K 4 S 34 [(0, vR x0), (1, vR x1), (3, vI x3)] [] := by
  intro S x0 x1 x3 hd
  unfold n_J2_fastRemove_b34 at hd
  refine g_aload_n C dJ2_fastRemove_34 rfl 1 rfl ?_
  refine g_aload_n C dJ2_fastRemove_35 rfl 0 rfl ?_
  refine g_iload_n C dJ2_fastRemove_36 rfl 2 rfl ?_
  refine g_dup_x1 C dJ2_fastRemove_37 rfl rfl ?_
  obtain ⟨S1, hS1, hd⟩ := Option.bind_eq_some_iff.mp hd
  refine g_put C gk_J2 (k := 2) (by decide) q168 (Or.inl rfl) rfl dJ2_fastRemove_38 (gfit_ok (pI_v hS1).1).1 (gfit_ok (pI_v hS1).1).2 (pI_v hS1).2 ?_
  refine g_null C dJ2_fastRemove_41 ?_
  obtain ⟨S2, hS2, hd⟩ := Option.bind_eq_some_iff.mp hd
  refine g_aast C 4 (by decide) dJ2_fastRemove_42 hS2 ?_
  exact g_vret C Q hd dJ2_fastRemove_43
theorem w_J2_fastRemove_b0m {K : KT} {r : Unit} {S1 : St} (C : GC K RJ2 cJ2_fastRemove 4 2 []) (E : EL (kΓ K) (kHI K) (kl K)) (Q : GQ K none (.inl none) S1) : ∀ (S : St) (x0 : Option Nat) (x1 : Option Nat) (x2 : Int32), n_J2_fastRemove S x0 x1 x2 = some (r, S1) → G K 4 S 0 [(0, vR x0), (1, vR x1), (2, vI x2)] [] := by
  intro S x0 x1 x2 hd
  unfold n_J2_fastRemove at hd
  refine g_aload_n C dJ2_fastRemove_0 rfl 0 rfl ?_
  refine g_dup C dJ2_fastRemove_1 rfl ?_
  obtain ⟨v1, hv1, hd⟩ := Option.bind_eq_some_iff.mp hd
  refine g_fld C gk_J2 (k := 0) (by decide) q176 (Or.inr q173) dJ2_fastRemove_2 (gI_v hv1) ?_
  refine g_iconst (v := 1) C dJ2_fastRemove_5 (by decide) ?_
  refine g_iadd C dJ2_fastRemove_6 ?_
  obtain ⟨S2, hS2, hd⟩ := Option.bind_eq_some_iff.mp hd
  refine g_put C gk_J2 (k := 0) (by decide) q176 (Or.inr q173) rfl dJ2_fastRemove_7 (gfit_ok (pI_v hS2).1).1 (gfit_ok (pI_v hS2).1).2 (pI_v hS2).2 ?_
  refine g_aload_n C dJ2_fastRemove_10 rfl 0 rfl ?_
  obtain ⟨v3, hv3, hd⟩ := Option.bind_eq_some_iff.mp hd
  refine g_fld C gk_J2 (k := 2) (by decide) q168 (Or.inl rfl) dJ2_fastRemove_11 (gI_v hv3) ?_
  refine g_iconst (v := 1) C dJ2_fastRemove_14 (by decide) ?_
  refine g_isub C dJ2_fastRemove_15 ?_
  refine g_dup C dJ2_fastRemove_16 rfl ?_
  refine g_istore_n (L' := [(3, vI (v3 - (1 : Int32))), (0, vR x0), (1, vR x1), (2, vI x2)]) C dJ2_fastRemove_17 rfl (by decide) rfl ?_
  refine g_iload_n C dJ2_fastRemove_18 rfl 3 rfl ?_
  refine g_icmp_le (tgt := 34) C dJ2_fastRemove_19 (by decide) hd (fun hd => ?_) (fun hd => ?_)
  · refine g_sub [1, 2, 0] rfl ?_
    exact w_J2_fastRemove_b34 C E Q _ _ _ _ hd
  · refine g_aload_n C dJ2_fastRemove_22 rfl 2 rfl ?_
    refine g_iload_n C dJ2_fastRemove_23 rfl 3 rfl ?_
    refine g_iconst (v := 1) C dJ2_fastRemove_24 (by decide) ?_
    refine g_iadd C dJ2_fastRemove_25 ?_
    refine g_aload_n C dJ2_fastRemove_26 rfl 2 rfl ?_
    refine g_iload_n C dJ2_fastRemove_27 rfl 3 rfl ?_
    refine g_iload_n C dJ2_fastRemove_28 rfl 0 rfl ?_
    refine g_iload_n C dJ2_fastRemove_29 rfl 3 rfl ?_
    refine g_isub C dJ2_fastRemove_30 ?_
    obtain ⟨S4, hS4, hd⟩ := Option.bind_eq_some_iff.mp hd
    refine g_acopy C q1319 (by decide) (Nat.le_of_ble_eq_true rfl) dJ2_fastRemove_31 hS4 ?_
    refine g_sub [1, 2, 0] rfl ?_
    exact w_J2_fastRemove_b34 C E Q _ _ _ _ hd
theorem m_J2_fastRemove {Γ : GG} {HI : St → Heap → Prop} {l : Launch} (E : EL Γ HI l) {S : St} {a0 : Option Nat} {a1 : Option Nat} {a2 : Int32} {r : Unit} {S1 : St} (h : n_J2_fastRemove S a0 a1 a2 = some (r, S1)) : MS Γ HI l yJ2_fastRemove cJ2_fastRemove 4 none 2 S [vR a0, vR a1, vI a2] (.inl none) S1 := by
  refine MS_of E.ntr E.hx (by decide +kernel) rfl (Nat.le_of_ble_eq_true rfl) fun K e1 e2 e3 e4 hnm C Q => ?_
  subst e1; subst e2; subst e3
  exact w_J2_fastRemove_b0m C E Q S a0 a1 a2 h

def n_J2_remove (S : St) (x0 : Option Nat) (x1 : Int32) : Option (Option Nat × St) :=
  (gI S x0 8 2).bind fun v1 =>
  bn (n_J16_checkIndex S x1 v1) fun v3 S2 =>
  (gR S2 x0 8 1).bind fun v4 =>
  (aR S2 v4 4 x1).bind fun v5 =>
  gd (grc S2 x0 8) <|
  bn (n_J2_fastRemove S2 x0 v4 x1) fun _ S6 =>
  some (v5, S6)
theorem w_J2_remove_b0m {K : KT} {r : Option Nat} {S1 : St} (C : GC K RJ2 cJ2_remove 4 4 []) (E : EL (kΓ K) (kHI K) (kl K)) (Q : GQ K (some (Jvm.ClassFile.FieldType.object "java/lang/Object")) (.inl (some (vR r))) S1) : ∀ (S : St) (x0 : Option Nat) (x1 : Int32), n_J2_remove S x0 x1 = some (r, S1) → G K 4 S 0 [(0, vR x0), (1, vI x1)] [] := by
  intro S x0 x1 hd
  unfold n_J2_remove at hd
  refine g_iload_n C dJ2_remove_0 rfl 1 rfl ?_
  refine g_aload_n C dJ2_remove_1 rfl 0 rfl ?_
  obtain ⟨v1, hv1, hd⟩ := Option.bind_eq_some_iff.mp hd
  refine g_fld C gk_J2 (k := 2) (by decide) q168 (Or.inl rfl) dJ2_remove_2 (gI_v hv1) ?_
  obtain ⟨v3, S2, hc, hd⟩ := bn_some hd
  refine g_cS_v (n := 2) C q449 q450 q115 q451 (by decide +kernel) (by decide) (by decide) dJ2_remove_5 (As := [vI x1, vI v1]) (rest := []) rfl rfl (Nat.le_of_ble_eq_true rfl) (m_J16_checkIndex E hc) ?_
  refine g_pop C dJ2_remove_8 rfl ?_
  refine g_aload_n C dJ2_remove_9 rfl 0 rfl ?_
  obtain ⟨v4, hv4, hd⟩ := Option.bind_eq_some_iff.mp hd
  refine g_fld C gk_J2 (k := 1) (by decide) q165 (Or.inl rfl) dJ2_remove_10 (gR_v hv4) ?_
  refine g_astore_n (L' := [(2, vR v4), (0, vR x0), (1, vI x1)]) C dJ2_remove_13 rfl (by decide) rfl ?_
  refine g_aload_n C dJ2_remove_14 rfl 0 rfl ?_
  refine g_iload_n C dJ2_remove_15 rfl 2 rfl ?_
  obtain ⟨v5, hv5, hd⟩ := Option.bind_eq_some_iff.mp hd
  refine g_aald C 4 (by decide) dJ2_remove_16 hv5 ?_
  refine g_astore_n (L' := [(3, vR v5), (2, vR v4), (0, vR x0), (1, vI x1)]) C dJ2_remove_17 rfl (by decide) rfl ?_
  refine g_aload_n C dJ2_remove_18 rfl 2 rfl ?_
  refine g_aload_n C dJ2_remove_19 rfl 1 rfl ?_
  refine g_iload_n C dJ2_remove_20 rfl 3 rfl ?_
  obtain ⟨hg, hd⟩ := gd_some hd
  obtain ⟨_, S6, hc, hd⟩ := bn_some hd
  refine g_cV_n (n := 2) C (gk_J2).1 q1315 q1317 qs22 q98 q1318 (by decide +kernel) (by decide) (by decide) dJ2_remove_21 (As := [vR v4, vI x1]) (rest := []) rfl rfl (Nat.le_of_ble_eq_true rfl) hg (m_J2_fastRemove E hc) ?_
  refine g_aload_n C dJ2_remove_24 rfl 0 rfl ?_
  exact g_aret C Q (Or.inl ⟨_, rfl⟩) hd dJ2_remove_25
theorem m_J2_remove {Γ : GG} {HI : St → Heap → Prop} {l : Launch} (E : EL Γ HI l) {S : St} {a0 : Option Nat} {a1 : Int32} {r : Option Nat} {S1 : St} (h : n_J2_remove S a0 a1 = some (r, S1)) : MS Γ HI l yJ2_remove cJ2_remove 4 (some (Jvm.ClassFile.FieldType.object "java/lang/Object")) 4 S [vR a0, vI a1] (.inl (some (vR r))) S1 := by
  refine MS_of E.ntr E.hx (by decide +kernel) rfl (Nat.le_of_ble_eq_true rfl) fun K e1 e2 e3 e4 hnm C Q => ?_
  subst e1; subst e2; subst e3
  exact w_J2_remove_b0m C E Q S a0 a1 h

def n_J35_equals (S : St) (x0 : Option Nat) (x1 : Option Nat) : Option (Int32 × St) :=
  if x0 = x1 then
    rtI id (Jvm.ClassFile.FieldType.boolean) (1 : Int32) S
  else
    rtI id (Jvm.ClassFile.FieldType.boolean) (0 : Int32) S
theorem w_J35_equals_b0m {K : KT} {r : Int32} {S1 : St} (C : GC K RJ35 cJ35_equals 2 2 []) (E : EL (kΓ K) (kHI K) (kl K)) (Q : GQ K (some (Jvm.ClassFile.FieldType.boolean)) (.inl (some (vI r))) S1) : ∀ (S : St) (x0 : Option Nat) (x1 : Option Nat), n_J35_equals S x0 x1 = some (r, S1) → G K 2 S 0 [(0, vR x0), (1, vR x1)] [] := by
  intro S x0 x1 hd
  unfold n_J35_equals at hd
  refine g_aload_n C dJ35_equals_0 rfl 0 rfl ?_
  refine g_aload_n C dJ35_equals_1 rfl 1 rfl ?_
  refine g_acmp_ne (tgt := 9) C dJ35_equals_2 (by decide) hd (fun hd => ?_) (fun hd => ?_)
  · refine g_iconst (v := 0) C dJ35_equals_9 (by decide) ?_
    exact g_iret C Q hd dJ35_equals_10
  · refine g_iconst (v := 1) C dJ35_equals_5 (by decide) ?_
    refine g_goto (tgt := 10) C dJ35_equals_6 (by decide) ?_
    exact g_iret C Q hd dJ35_equals_10
theorem m_J35_equals {Γ : GG} {HI : St → Heap → Prop} {l : Launch} (E : EL Γ HI l) {S : St} {a0 : Option Nat} {a1 : Option Nat} {r : Int32} {S1 : St} (h : n_J35_equals S a0 a1 = some (r, S1)) : MS Γ HI l yJ35_equals cJ35_equals 2 (some (Jvm.ClassFile.FieldType.boolean)) 2 S [vR a0, vR a1] (.inl (some (vI r))) S1 := by
  refine MS_of E.ntr E.hx (by decide +kernel) rfl (Nat.le_of_ble_eq_true rfl) fun K e1 e2 e3 e4 hnm C Q => ?_
  subst e1; subst e2; subst e3
  exact w_J35_equals_b0m C E Q S a0 a1 h

def n_J2_remove_2_b67 (S : St) (x0 : Option Nat) (x2 : Option Nat) (x4 : Int32) : Option (Int32 × St) :=
  gd (grc S x0 8) <|
  bn (n_J2_fastRemove S x0 x2 x4) fun _ S1 =>
  rtI id (Jvm.ClassFile.FieldType.boolean) (1 : Int32) S1
def n_J2_remove_2_b17 : Nat → St → Option Nat → Option Nat → Int32 → Int32 → Option (Int32 × St)
  | 0 => fun _ _ _ _ _ => none
  | n + 1 => fun S x0 x2 x3 x4 =>
    if x3 ≤ x4 then
      rtI id (Jvm.ClassFile.FieldType.boolean) (0 : Int32) S
    else
      (aR S x2 4 x4).bind fun v1 =>
      if v1 = none then
        n_J2_remove_2_b67 S x0 x2 x4
      else
        (n_J2_remove_2_b17 n) S x0 x2 x3 (x4 + 1)
def n_J2_remove_2_b39 : Nat → St → Option Nat → Option Nat → Option Nat → Int32 → Int32 → Option (Int32 × St)
  | 0 => fun _ _ _ _ _ _ => none
  | n + 1 => fun S x0 x1 x2 x3 x4 =>
    if x3 ≤ x4 then
      rtI id (Jvm.ClassFile.FieldType.boolean) (0 : Int32) S
    else
      (aR S x2 4 x4).bind fun v1 =>
      gd (grc S x1 5) <|
      bn (n_J35_equals S x1 v1) fun v3 S2 =>
      if v3 = 0 then
        (n_J2_remove_2_b39 n) S2 x0 x1 x2 x3 (x4 + 1)
      else
        n_J2_remove_2_b67 S2 x0 x2 x4
def n_J2_remove_2 (S : St) (x0 : Option Nat) (x1 : Option Nat) : Option (Int32 × St) :=
  (gR S x0 8 1).bind fun v1 =>
  (gI S x0 8 2).bind fun v2 =>
  if x1 = none then
    n_J2_remove_2_b17 FU S x0 v1 v2 (0 : Int32)
  else
    n_J2_remove_2_b39 FU S x0 x1 v1 v2 (0 : Int32)
theorem w_J2_remove_2_b67 {K : KT} {r : Int32} {S1 : St} (C : GC K RJ2 cJ2_remove_2 5 3 []) (E : EL (kΓ K) (kHI K) (kl K)) (Q : GQ K (some (Jvm.ClassFile.FieldType.boolean)) (.inl (some (vI r))) S1) : ∀ (S : St) (x0 : Option Nat) (x2 : Option Nat) (x4 : Int32), n_J2_remove_2_b67 S x0 x2 x4 = some (r, S1) → G K 5 S 67 [(0, vR x0), (2, vR x2), (4, vI x4)] [] := by
  intro S x0 x2 x4 hd
  unfold n_J2_remove_2_b67 at hd
  refine g_aload_n C dJ2_remove_2_67 rfl 0 rfl ?_
  refine g_aload_n C dJ2_remove_2_68 rfl 1 rfl ?_
  refine g_iload C dJ2_remove_2_69 2 rfl ?_
  obtain ⟨hg, hd⟩ := gd_some hd
  obtain ⟨_, S1, hc, hd⟩ := bn_some hd
  refine g_cV_n (n := 2) C (gk_J2).1 q1315 q1317 qs22 q98 q1318 (by decide +kernel) (by decide) (by decide) dJ2_remove_2_71 (As := [vR x2, vI x4]) (rest := []) rfl rfl (Nat.le_of_ble_eq_true rfl) hg (m_J2_fastRemove E hc) ?_
  refine g_iconst (v := 1) C dJ2_remove_2_74 (by decide) ?_
  exact g_iret C Q hd dJ2_remove_2_75
theorem w_J2_remove_2_b17 {K : KT} {r : Int32} {S1 : St} (C : GC K RJ2 cJ2_remove_2 5 3 []) (E : EL (kΓ K) (kHI K) (kl K)) (Q : GQ K (some (Jvm.ClassFile.FieldType.boolean)) (.inl (some (vI r))) S1) : ∀ (n : Nat) (S : St) (x0 : Option Nat) (x2 : Option Nat) (x3 : Int32) (x4 : Int32), n_J2_remove_2_b17 n S x0 x2 x3 x4 = some (r, S1) → G K 5 S 17 [(0, vR x0), (2, vR x2), (3, vI x3), (4, vI x4)] [] := by
  intro n
  induction n with
  | zero => intro S x0 x2 x3 x4 hd; cases hd
  | succ n ih =>
    intro S x0 x2 x3 x4 hd
    unfold n_J2_remove_2_b17 at hd
    refine g_iload C dJ2_remove_2_17 3 rfl ?_
    refine g_iload_n C dJ2_remove_2_19 rfl 2 rfl ?_
    refine g_icmp_ge (tgt := 65) C dJ2_remove_2_20 (by decide) hd (fun hd => ?_) (fun hd => ?_)
    · refine g_iconst (v := 0) C dJ2_remove_2_65 (by decide) ?_
      exact g_iret C Q hd dJ2_remove_2_66
    · refine g_aload_n C dJ2_remove_2_23 rfl 1 rfl ?_
      refine g_iload C dJ2_remove_2_24 3 rfl ?_
      obtain ⟨v1, hv1, hd⟩ := Option.bind_eq_some_iff.mp hd
      refine g_aald C 4 (by decide) dJ2_remove_2_26 hv1 ?_
      refine g_ifnonnull (tgt := 33) C dJ2_remove_2_27 (by decide) hd (fun hd => ?_) (fun hd => ?_)
      · refine g_iinc (v := x4 + 1) (L' := [(4, vI (x4 + 1)), (0, vR x0), (2, vR x2), (3, vI x3)]) C dJ2_remove_2_33 3 rfl rfl (by decide) rfl ?_
        refine g_goto (tgt := 17) C dJ2_remove_2_36 (by decide) ?_
        refine g_sub [1, 2, 3, 0] rfl ?_
        exact ih _ _ _ _ _ hd
      · refine g_goto (tgt := 67) C dJ2_remove_2_30 (by decide) ?_
        refine g_sub [0, 1, 3] rfl ?_
        exact w_J2_remove_2_b67 C E Q _ _ _ _ hd
theorem w_J2_remove_2_b39 {K : KT} {r : Int32} {S1 : St} (C : GC K RJ2 cJ2_remove_2 5 3 []) (E : EL (kΓ K) (kHI K) (kl K)) (Q : GQ K (some (Jvm.ClassFile.FieldType.boolean)) (.inl (some (vI r))) S1) : ∀ (n : Nat) (S : St) (x0 : Option Nat) (x1 : Option Nat) (x2 : Option Nat) (x3 : Int32) (x4 : Int32), n_J2_remove_2_b39 n S x0 x1 x2 x3 x4 = some (r, S1) → G K 5 S 39 [(0, vR x0), (1, vR x1), (2, vR x2), (3, vI x3), (4, vI x4)] [] := by
  intro n
  induction n with
  | zero => intro S x0 x1 x2 x3 x4 hd; cases hd
  | succ n ih =>
    intro S x0 x1 x2 x3 x4 hd
    unfold n_J2_remove_2_b39 at hd
    refine g_iload C dJ2_remove_2_39 4 rfl ?_
    refine g_iload_n C dJ2_remove_2_41 rfl 3 rfl ?_
    refine g_icmp_ge (tgt := 65) C dJ2_remove_2_42 (by decide) hd (fun hd => ?_) (fun hd => ?_)
    · refine g_iconst (v := 0) C dJ2_remove_2_65 (by decide) ?_
      exact g_iret C Q hd dJ2_remove_2_66
    · refine g_aload_n C dJ2_remove_2_45 rfl 1 rfl ?_
      refine g_aload_n C dJ2_remove_2_46 rfl 2 rfl ?_
      refine g_iload C dJ2_remove_2_47 4 rfl ?_
      obtain ⟨v1, hv1, hd⟩ := Option.bind_eq_some_iff.mp hd
      refine g_aald C 4 (by decide) dJ2_remove_2_49 hv1 ?_
      obtain ⟨hg, hd⟩ := gd_some hd
      obtain ⟨v3, S2, hc, hd⟩ := bn_some hd
      refine g_cU_v (n := 1) C (gk_X7).1 q1669 q1604 q1603 q1607 q2423 q1636 rfl (by decide +kernel) (by decide) (by decide) dJ2_remove_2_50 (As := [vR v1]) (rest := []) rfl rfl (Nat.le_of_ble_eq_true rfl) hg (m_J35_equals E hc) ?_
      refine g_if_eq (tgt := 59) C dJ2_remove_2_53 (by decide) hd (fun hd => ?_) (fun hd => ?_)
      · refine g_iinc (v := x4 + 1) (L' := [(4, vI (x4 + 1)), (0, vR x0), (1, vR x1), (2, vR x2), (3, vI x3)]) C dJ2_remove_2_59 4 rfl rfl (by decide) rfl ?_
        refine g_goto (tgt := 39) C dJ2_remove_2_62 (by decide) ?_
        refine g_sub [1, 2, 3, 4, 0] rfl ?_
        exact ih _ _ _ _ _ _ hd
      · refine g_goto (tgt := 67) C dJ2_remove_2_56 (by decide) ?_
        refine g_sub [0, 2, 4] rfl ?_
        exact w_J2_remove_2_b67 C E Q _ _ _ _ hd
theorem w_J2_remove_2_b0m {K : KT} {r : Int32} {S1 : St} (C : GC K RJ2 cJ2_remove_2 5 3 []) (E : EL (kΓ K) (kHI K) (kl K)) (Q : GQ K (some (Jvm.ClassFile.FieldType.boolean)) (.inl (some (vI r))) S1) : ∀ (S : St) (x0 : Option Nat) (x1 : Option Nat), n_J2_remove_2 S x0 x1 = some (r, S1) → G K 5 S 0 [(0, vR x0), (1, vR x1)] [] := by
  intro S x0 x1 hd
  unfold n_J2_remove_2 at hd
  refine g_aload_n C dJ2_remove_2_0 rfl 0 rfl ?_
  obtain ⟨v1, hv1, hd⟩ := Option.bind_eq_some_iff.mp hd
  refine g_fld C gk_J2 (k := 1) (by decide) q165 (Or.inl rfl) dJ2_remove_2_1 (gR_v hv1) ?_
  refine g_astore_n (L' := [(2, vR v1), (0, vR x0), (1, vR x1)]) C dJ2_remove_2_4 rfl (by decide) rfl ?_
  refine g_aload_n C dJ2_remove_2_5 rfl 1 rfl ?_
  obtain ⟨v2, hv2, hd⟩ := Option.bind_eq_some_iff.mp hd
  refine g_fld C gk_J2 (k := 2) (by decide) q168 (Or.inl rfl) dJ2_remove_2_6 (gI_v hv2) ?_
  refine g_istore_n (L' := [(3, vI v2), (2, vR v1), (0, vR x0), (1, vR x1)]) C dJ2_remove_2_9 rfl (by decide) rfl ?_
  refine g_iconst (v := 0) C dJ2_remove_2_10 (by decide) ?_
  refine g_istore (L' := [(4, vI (0 : Int32)), (3, vI v2), (2, vR v1), (0, vR x0), (1, vR x1)]) C dJ2_remove_2_11 (by decide) rfl ?_
  refine g_aload_n C dJ2_remove_2_13 rfl 4 rfl ?_
  refine g_ifnonnull (tgt := 39) C dJ2_remove_2_14 (by decide) hd (fun hd => ?_) (fun hd => ?_)
  · refine g_sub [3, 4, 2, 1, 0] rfl ?_
    exact w_J2_remove_2_b39 C E Q FU _ _ _ _ _ _ hd
  · refine g_sub [3, 2, 1, 0] rfl ?_
    exact w_J2_remove_2_b17 C E Q FU _ _ _ _ _ hd
theorem m_J2_remove_2 {Γ : GG} {HI : St → Heap → Prop} {l : Launch} (E : EL Γ HI l) {S : St} {a0 : Option Nat} {a1 : Option Nat} {r : Int32} {S1 : St} (h : n_J2_remove_2 S a0 a1 = some (r, S1)) : MS Γ HI l yJ2_remove_2 cJ2_remove_2 5 (some (Jvm.ClassFile.FieldType.boolean)) 3 S [vR a0, vR a1] (.inl (some (vI r))) S1 := by
  refine MS_of E.ntr E.hx (by decide +kernel) rfl (Nat.le_of_ble_eq_true rfl) fun K e1 e2 e3 e4 hnm C Q => ?_
  subst e1; subst e2; subst e3
  exact w_J2_remove_2_b0m C E Q S a0 a1 h

def n_J2_isEmpty (S : St) (x0 : Option Nat) : Option (Int32 × St) :=
  (gI S x0 8 2).bind fun v1 =>
  if v1 = 0 then
    rtI id (Jvm.ClassFile.FieldType.boolean) (1 : Int32) S
  else
    rtI id (Jvm.ClassFile.FieldType.boolean) (0 : Int32) S
theorem w_J2_isEmpty_b0m {K : KT} {r : Int32} {S1 : St} (C : GC K RJ2 cJ2_isEmpty 1 2 []) (E : EL (kΓ K) (kHI K) (kl K)) (Q : GQ K (some (Jvm.ClassFile.FieldType.boolean)) (.inl (some (vI r))) S1) : ∀ (S : St) (x0 : Option Nat), n_J2_isEmpty S x0 = some (r, S1) → G K 1 S 0 [(0, vR x0)] [] := by
  intro S x0 hd
  unfold n_J2_isEmpty at hd
  refine g_aload_n C dJ2_isEmpty_0 rfl 0 rfl ?_
  obtain ⟨v1, hv1, hd⟩ := Option.bind_eq_some_iff.mp hd
  refine g_fld C gk_J2 (k := 2) (by decide) q168 (Or.inl rfl) dJ2_isEmpty_1 (gI_v hv1) ?_
  refine g_if_ne (tgt := 11) C dJ2_isEmpty_4 (by decide) hd (fun hd => ?_) (fun hd => ?_)
  · refine g_iconst (v := 0) C dJ2_isEmpty_11 (by decide) ?_
    exact g_iret C Q hd dJ2_isEmpty_12
  · refine g_iconst (v := 1) C dJ2_isEmpty_7 (by decide) ?_
    refine g_goto (tgt := 12) C dJ2_isEmpty_8 (by decide) ?_
    exact g_iret C Q hd dJ2_isEmpty_12
theorem m_J2_isEmpty {Γ : GG} {HI : St → Heap → Prop} {l : Launch} (E : EL Γ HI l) {S : St} {a0 : Option Nat} {r : Int32} {S1 : St} (h : n_J2_isEmpty S a0 = some (r, S1)) : MS Γ HI l yJ2_isEmpty cJ2_isEmpty 1 (some (Jvm.ClassFile.FieldType.boolean)) 2 S [vR a0] (.inl (some (vI r))) S1 := by
  refine MS_of E.ntr E.hx (by decide +kernel) rfl (Nat.le_of_ble_eq_true rfl) fun K e1 e2 e3 e4 hnm C Q => ?_
  subst e1; subst e2; subst e3
  exact w_J2_isEmpty_b0m C E Q S a0 h

def n_J2_rangeCheckForAdd (S : St) (x0 : Option Nat) (x1 : Int32) : Option (Unit × St) :=
  (gI S x0 8 2).bind fun v1 =>
  if v1 < x1 then
    none
  else
    if 0 ≤ x1 then
      some ((), S)
    else
      none
theorem w_J2_rangeCheckForAdd_b0m {K : KT} {r : Unit} {S1 : St} (C : GC K RJ2 cJ2_rangeCheckForAdd 2 2 []) (E : EL (kΓ K) (kHI K) (kl K)) (Q : GQ K none (.inl none) S1) : ∀ (S : St) (x0 : Option Nat) (x1 : Int32), n_J2_rangeCheckForAdd S x0 x1 = some (r, S1) → G K 2 S 0 [(0, vR x0), (1, vI x1)] [] := by
  intro S x0 x1 hd
  unfold n_J2_rangeCheckForAdd at hd
  refine g_iload_n C dJ2_rangeCheckForAdd_0 rfl 1 rfl ?_
  refine g_aload_n C dJ2_rangeCheckForAdd_1 rfl 0 rfl ?_
  obtain ⟨v1, hv1, hd⟩ := Option.bind_eq_some_iff.mp hd
  refine g_fld C gk_J2 (k := 2) (by decide) q168 (Or.inl rfl) dJ2_rangeCheckForAdd_2 (gI_v hv1) ?_
  refine g_icmp_gt (tgt := 12) C dJ2_rangeCheckForAdd_5 (by decide) hd (fun hd => ?_) (fun hd => ?_)
  · cases hd
  · refine g_iload_n C dJ2_rangeCheckForAdd_8 rfl 1 rfl ?_
    refine g_if_ge (tgt := 25) C dJ2_rangeCheckForAdd_9 (by decide) hd (fun hd => ?_) (fun hd => ?_)
    · exact g_vret C Q hd dJ2_rangeCheckForAdd_25
    · cases hd
theorem m_J2_rangeCheckForAdd {Γ : GG} {HI : St → Heap → Prop} {l : Launch} (E : EL Γ HI l) {S : St} {a0 : Option Nat} {a1 : Int32} {r : Unit} {S1 : St} (h : n_J2_rangeCheckForAdd S a0 a1 = some (r, S1)) : MS Γ HI l yJ2_rangeCheckForAdd cJ2_rangeCheckForAdd 2 none 2 S [vR a0, vI a1] (.inl none) S1 := by
  refine MS_of E.ntr E.hx (by decide +kernel) rfl (Nat.le_of_ble_eq_true rfl) fun K e1 e2 e3 e4 hnm C Q => ?_
  subst e1; subst e2; subst e3
  exact w_J2_rangeCheckForAdd_b0m C E Q S a0 a1 h

def n_J2_add_3_b38 (S : St) (x0 : Option Nat) (x1 : Int32) (x2 : Option Nat) (x3 : Int32) (x4 : Option Nat) : Option (Unit × St) :=
  (acp S x4 x1 x4 (x1 + (1 : Int32)) (x3 - x1)).bind fun S1 =>
  (sR S1 x4 4 x1 x2).bind fun S2 =>
  (pI .int S2 x0 8 2 (x3 + (1 : Int32))).bind fun S3 =>
  some ((), S3)
def n_J2_add_3 (S : St) (x0 : Option Nat) (x1 : Int32) (x2 : Option Nat) : Option (Unit × St) :=
  gd (grc S x0 8) <|
  bn (n_J2_rangeCheckForAdd S x0 x1) fun _ S1 =>
  (gI S1 x0 8 0).bind fun v3 =>
  (pI .int S1 x0 8 0 (v3 + (1 : Int32))).bind fun S4 =>
  (gI S4 x0 8 2).bind fun v5 =>
  (gR S4 x0 8 1).bind fun v6 =>
  (aLn S4 v6).bind fun v7 =>
  if v5 = v7 then
    gd (grc S4 x0 8) <|
    bn (n_J2_grow S4 x0) fun v9 S8 =>
    n_J2_add_3_b38 S8 x0 x1 x2 v5 v9
  else
    n_J2_add_3_b38 S4 x0 x1 x2 v5 v6
theorem w_J2_add_3_b38 {K : KT} {r : Unit} {S1 : St} (C : GC K RJ2 cJ2_add_3 5 7 []) (E : EL (kΓ K) (kHI K) (kl K)) (Q : GQ K none (.inl none) S1) : ∀ (S : St) (x0 : Option Nat) (x1 : Int32) (x2 : Option Nat) (x3 : Int32) (x4 : Option Nat), n_J2_add_3_b38 S x0 x1 x2 x3 x4 = some (r, S1) → G K 5 S 38 [(0, vR x0), (1, vI x1), (2, vR x2), (3, vI x3), (4, vR x4)] [] := by
  intro S x0 x1 x2 x3 x4 hd
  unfold n_J2_add_3_b38 at hd
  refine g_aload C dJ2_add_3_38 4 rfl ?_
  refine g_iload_n C dJ2_add_3_40 rfl 1 rfl ?_
  refine g_aload C dJ2_add_3_41 4 rfl ?_
  refine g_iload_n C dJ2_add_3_43 rfl 1 rfl ?_
  refine g_iconst (v := 1) C dJ2_add_3_44 (by decide) ?_
  refine g_iadd C dJ2_add_3_45 ?_
  refine g_iload_n C dJ2_add_3_46 rfl 3 rfl ?_
  refine g_iload_n C dJ2_add_3_47 rfl 1 rfl ?_
  refine g_isub C dJ2_add_3_48 ?_
  obtain ⟨S1, hS1, hd⟩ := Option.bind_eq_some_iff.mp hd
  refine g_acopy C q1319 (by decide) (Nat.le_of_ble_eq_true rfl) dJ2_add_3_49 hS1 ?_
  refine g_aload C dJ2_add_3_52 4 rfl ?_
  refine g_iload_n C dJ2_add_3_54 rfl 1 rfl ?_
  refine g_aload_n C dJ2_add_3_55 rfl 2 rfl ?_
  obtain ⟨S2, hS2, hd⟩ := Option.bind_eq_some_iff.mp hd
  refine g_aast C 4 (by decide) dJ2_add_3_56 hS2 ?_
  refine g_aload_n C dJ2_add_3_57 rfl 0 rfl ?_
  refine g_iload_n C dJ2_add_3_58 rfl 3 rfl ?_
  refine g_iconst (v := 1) C dJ2_add_3_59 (by decide) ?_
  refine g_iadd C dJ2_add_3_60 ?_
  obtain ⟨S3, hS3, hd⟩ := Option.bind_eq_some_iff.mp hd
  refine g_put C gk_J2 (k := 2) (by decide) q168 (Or.inl rfl) rfl dJ2_add_3_61 (gfit_ok (pI_v hS3).1).1 (gfit_ok (pI_v hS3).1).2 (pI_v hS3).2 ?_
  exact g_vret C Q hd dJ2_add_3_64
theorem w_J2_add_3_b0m {K : KT} {r : Unit} {S1 : St} (C : GC K RJ2 cJ2_add_3 5 7 []) (E : EL (kΓ K) (kHI K) (kl K)) (Q : GQ K none (.inl none) S1) : ∀ (S : St) (x0 : Option Nat) (x1 : Int32) (x2 : Option Nat), n_J2_add_3 S x0 x1 x2 = some (r, S1) → G K 5 S 0 [(0, vR x0), (1, vI x1), (2, vR x2)] [] := by
  intro S x0 x1 x2 hd
  unfold n_J2_add_3 at hd
  refine g_aload_n C dJ2_add_3_0 rfl 0 rfl ?_
  refine g_iload_n C dJ2_add_3_1 rfl 1 rfl ?_
  obtain ⟨hg, hd⟩ := gd_some hd
  obtain ⟨_, S1, hc, hd⟩ := bn_some hd
  refine g_cV_n (n := 1) C (gk_J2).1 q858 q860 qs9 q98 q861 (by decide +kernel) (by decide) (by decide) dJ2_add_3_2 (As := [vI x1]) (rest := []) rfl rfl (Nat.le_of_ble_eq_true rfl) hg (m_J2_rangeCheckForAdd E hc) ?_
  refine g_aload_n C dJ2_add_3_5 rfl 0 rfl ?_
  refine g_dup C dJ2_add_3_6 rfl ?_
  obtain ⟨v3, hv3, hd⟩ := Option.bind_eq_some_iff.mp hd
  refine g_fld C gk_J2 (k := 0) (by decide) q176 (Or.inr q173) dJ2_add_3_7 (gI_v hv3) ?_
  refine g_iconst (v := 1) C dJ2_add_3_10 (by decide) ?_
  refine g_iadd C dJ2_add_3_11 ?_
  obtain ⟨S4, hS4, hd⟩ := Option.bind_eq_some_iff.mp hd
  refine g_put C gk_J2 (k := 0) (by decide) q176 (Or.inr q173) rfl dJ2_add_3_12 (gfit_ok (pI_v hS4).1).1 (gfit_ok (pI_v hS4).1).2 (pI_v hS4).2 ?_
  refine g_aload_n C dJ2_add_3_15 rfl 0 rfl ?_
  obtain ⟨v5, hv5, hd⟩ := Option.bind_eq_some_iff.mp hd
  refine g_fld C gk_J2 (k := 2) (by decide) q168 (Or.inl rfl) dJ2_add_3_16 (gI_v hv5) ?_
  refine g_dup C dJ2_add_3_19 rfl ?_
  refine g_istore_n (L' := [(3, vI v5), (0, vR x0), (1, vI x1), (2, vR x2)]) C dJ2_add_3_20 rfl (by decide) rfl ?_
  refine g_aload_n C dJ2_add_3_21 rfl 1 rfl ?_
  obtain ⟨v6, hv6, hd⟩ := Option.bind_eq_some_iff.mp hd
  refine g_fld C gk_J2 (k := 1) (by decide) q165 (Or.inl rfl) dJ2_add_3_22 (gR_v hv6) ?_
  refine g_dup C dJ2_add_3_25 rfl ?_
  refine g_astore (L' := [(4, vR v6), (3, vI v5), (0, vR x0), (1, vI x1), (2, vR x2)]) C dJ2_add_3_26 (by decide) rfl ?_
  obtain ⟨v7, hv7, hd⟩ := Option.bind_eq_some_iff.mp hd
  refine g_alen C dJ2_add_3_28 hv7 ?_
  refine g_icmp_ne (tgt := 38) C dJ2_add_3_29 (by decide) hd (fun hd => ?_) (fun hd => ?_)
  · refine g_sub [2, 3, 4, 1, 0] rfl ?_
    exact w_J2_add_3_b38 C E Q _ _ _ _ _ _ hd
  · refine g_aload_n C dJ2_add_3_32 rfl 2 rfl ?_
    obtain ⟨hg, hd⟩ := gd_some hd
    obtain ⟨v9, S8, hc, hd⟩ := bn_some hd
    refine g_cV_v (n := 0) C (gk_J2).1 q287 q289 qs2 q98 q290 (by decide +kernel) (by decide) (by decide) dJ2_add_3_33 (As := []) (rest := []) rfl rfl (Nat.le_of_ble_eq_true rfl) hg (m_J2_grow E hc) ?_
    refine g_astore (L' := [(4, vR v9), (3, vI v5), (0, vR x0), (1, vI x1), (2, vR x2)]) C dJ2_add_3_36 (by decide) rfl ?_
    refine g_sub [2, 3, 4, 1, 0] rfl ?_
    exact w_J2_add_3_b38 C E Q _ _ _ _ _ _ hd
theorem m_J2_add_3 {Γ : GG} {HI : St → Heap → Prop} {l : Launch} (E : EL Γ HI l) {S : St} {a0 : Option Nat} {a1 : Int32} {a2 : Option Nat} {r : Unit} {S1 : St} (h : n_J2_add_3 S a0 a1 a2 = some (r, S1)) : MS Γ HI l yJ2_add_3 cJ2_add_3 5 none 7 S [vR a0, vI a1, vR a2] (.inl none) S1 := by
  refine MS_of E.ntr E.hx (by decide +kernel) rfl (Nat.le_of_ble_eq_true rfl) fun K e1 e2 e3 e4 hnm C Q => ?_
  subst e1; subst e2; subst e3
  exact w_J2_add_3_b0m C E Q S a0 a1 a2 h

def n_J26_hasNext (S : St) (x0 : Option Nat) : Option (Int32 × St) :=
  (gI S x0 12 0).bind fun v1 =>
  (gR S x0 12 3).bind fun v2 =>
  (gI S v2 8 2).bind fun v3 =>
  if v1 = v3 then
    rtI id (Jvm.ClassFile.FieldType.boolean) (0 : Int32) S
  else
    rtI id (Jvm.ClassFile.FieldType.boolean) (1 : Int32) S
theorem w_J26_hasNext_b0m {K : KT} {r : Int32} {S1 : St} (C : GC K RJ26 cJ26_hasNext 1 2 []) (E : EL (kΓ K) (kHI K) (kl K)) (Q : GQ K (some (Jvm.ClassFile.FieldType.boolean)) (.inl (some (vI r))) S1) : ∀ (S : St) (x0 : Option Nat), n_J26_hasNext S x0 = some (r, S1) → G K 1 S 0 [(0, vR x0)] [] := by
  intro S x0 hd
  unfold n_J26_hasNext at hd
  refine g_aload_n C dJ26_hasNext_0 rfl 0 rfl ?_
  obtain ⟨v1, hv1, hd⟩ := Option.bind_eq_some_iff.mp hd
  refine g_fld C gk_J26 (k := 0) (by decide) q828 (Or.inl rfl) dJ26_hasNext_1 (gI_v hv1) ?_
  refine g_aload_n C dJ26_hasNext_4 rfl 0 rfl ?_
  obtain ⟨v2, hv2, hd⟩ := Option.bind_eq_some_iff.mp hd
  refine g_fld C gk_J26 (k := 3) (by decide) q831 (Or.inl rfl) dJ26_hasNext_5 (gR_v hv2) ?_
  obtain ⟨v3, hv3, hd⟩ := Option.bind_eq_some_iff.mp hd
  refine g_fldN C gk_J2 (k := 2) (by decide) q167 rfl dJ26_hasNext_8 (gI_v hv3) ?_
  refine g_icmp_eq (tgt := 18) C dJ26_hasNext_11 (by decide) hd (fun hd => ?_) (fun hd => ?_)
  · refine g_iconst (v := 0) C dJ26_hasNext_18 (by decide) ?_
    exact g_iret C Q hd dJ26_hasNext_19
  · refine g_iconst (v := 1) C dJ26_hasNext_14 (by decide) ?_
    refine g_goto (tgt := 19) C dJ26_hasNext_15 (by decide) ?_
    exact g_iret C Q hd dJ26_hasNext_19
theorem m_J26_hasNext {Γ : GG} {HI : St → Heap → Prop} {l : Launch} (E : EL Γ HI l) {S : St} {a0 : Option Nat} {r : Int32} {S1 : St} (h : n_J26_hasNext S a0 = some (r, S1)) : MS Γ HI l yJ26_hasNext cJ26_hasNext 1 (some (Jvm.ClassFile.FieldType.boolean)) 2 S [vR a0] (.inl (some (vI r))) S1 := by
  refine MS_of E.ntr E.hx (by decide +kernel) rfl (Nat.le_of_ble_eq_true rfl) fun K e1 e2 e3 e4 hnm C Q => ?_
  subst e1; subst e2; subst e3
  exact w_J26_hasNext_b0m C E Q S a0 h

def n_J26_checkForComodification (S : St) (x0 : Option Nat) : Option (Unit × St) :=
  (gR S x0 12 3).bind fun v1 =>
  (gI S v1 8 0).bind fun v2 =>
  (gI S x0 12 2).bind fun v3 =>
  if v2 = v3 then
    some ((), S)
  else
    none
theorem w_J26_checkForComodification_b0m {K : KT} {r : Unit} {S1 : St} (C : GC K RJ26 cJ26_checkForComodification 1 2 []) (E : EL (kΓ K) (kHI K) (kl K)) (Q : GQ K none (.inl none) S1) : ∀ (S : St) (x0 : Option Nat), n_J26_checkForComodification S x0 = some (r, S1) → G K 1 S 0 [(0, vR x0)] [] := by
  intro S x0 hd
  unfold n_J26_checkForComodification at hd
  refine g_aload_n C dJ26_checkForComodification_0 rfl 0 rfl ?_
  obtain ⟨v1, hv1, hd⟩ := Option.bind_eq_some_iff.mp hd
  refine g_fld C gk_J26 (k := 3) (by decide) q831 (Or.inl rfl) dJ26_checkForComodification_1 (gR_v hv1) ?_
  obtain ⟨v2, hv2, hd⟩ := Option.bind_eq_some_iff.mp hd
  refine g_fld C gk_J2 (k := 0) (by decide) q172 (Or.inr q173) dJ26_checkForComodification_4 (gI_v hv2) ?_
  refine g_aload_n C dJ26_checkForComodification_7 rfl 0 rfl ?_
  obtain ⟨v3, hv3, hd⟩ := Option.bind_eq_some_iff.mp hd
  refine g_fld C gk_J26 (k := 2) (by decide) q830 (Or.inl rfl) dJ26_checkForComodification_8 (gI_v hv3) ?_
  refine g_icmp_eq (tgt := 22) C dJ26_checkForComodification_11 (by decide) hd (fun hd => ?_) (fun hd => ?_)
  · exact g_vret C Q hd dJ26_checkForComodification_22
  · cases hd
theorem m_J26_checkForComodification {Γ : GG} {HI : St → Heap → Prop} {l : Launch} (E : EL Γ HI l) {S : St} {a0 : Option Nat} {r : Unit} {S1 : St} (h : n_J26_checkForComodification S a0 = some (r, S1)) : MS Γ HI l yJ26_checkForComodification cJ26_checkForComodification 1 none 2 S [vR a0] (.inl none) S1 := by
  refine MS_of E.ntr E.hx (by decide +kernel) rfl (Nat.le_of_ble_eq_true rfl) fun K e1 e2 e3 e4 hnm C Q => ?_
  subst e1; subst e2; subst e3
  exact w_J26_checkForComodification_b0m C E Q S a0 h

def n_J26_next (S : St) (x0 : Option Nat) : Option (Option Nat × St) :=
  gd (grc S x0 12) <|
  bn (n_J26_checkForComodification S x0) fun _ S1 =>
  (gI S1 x0 12 0).bind fun v3 =>
  (gR S1 x0 12 3).bind fun v4 =>
  (gI S1 v4 8 2).bind fun v5 =>
  if v3 < v5 then
    (gR S1 x0 12 3).bind fun v6 =>
    (gR S1 v6 8 1).bind fun v7 =>
    (aLn S1 v7).bind fun v8 =>
    if v3 < v8 then
      (pI .int S1 x0 12 0 (v3 + (1 : Int32))).bind fun S9 =>
      (pI .int S9 x0 12 1 v3).bind fun S10 =>
      (aR S10 v7 4 v3).bind fun v11 =>
      some (v11, S10)
    else
      none
  else
    none
theorem w_J26_next_b0m {K : KT} {r : Option Nat} {S1 : St} (C : GC K RJ26 cJ26_next 3 3 []) (E : EL (kΓ K) (kHI K) (kl K)) (Q : GQ K (some (Jvm.ClassFile.FieldType.object "java/lang/Object")) (.inl (some (vR r))) S1) : ∀ (S : St) (x0 : Option Nat), n_J26_next S x0 = some (r, S1) → G K 3 S 0 [(0, vR x0)] [] := by
  intro S x0 hd
  unfold n_J26_next at hd
  refine g_aload_n C dJ26_next_0 rfl 0 rfl ?_
  obtain ⟨hg, hd⟩ := gd_some hd
  obtain ⟨_, S1, hc, hd⟩ := bn_some hd
  refine g_cV_n (n := 0) C (gk_J26).1 q1037 q1038 q1039 q125 q1042 (by decide +kernel) (by decide) (by decide) dJ26_next_1 (As := []) (rest := []) rfl rfl (Nat.le_of_ble_eq_true rfl) hg (m_J26_checkForComodification E hc) ?_
  refine g_aload_n C dJ26_next_4 rfl 0 rfl ?_
  obtain ⟨v3, hv3, hd⟩ := Option.bind_eq_some_iff.mp hd
  refine g_fld C gk_J26 (k := 0) (by decide) q828 (Or.inl rfl) dJ26_next_5 (gI_v hv3) ?_
  refine g_istore_n (L' := [(1, vI v3), (0, vR x0)]) C dJ26_next_8 rfl (by decide) rfl ?_
  refine g_iload_n C dJ26_next_9 rfl 0 rfl ?_
  refine g_aload_n C dJ26_next_10 rfl 1 rfl ?_
  obtain ⟨v4, hv4, hd⟩ := Option.bind_eq_some_iff.mp hd
  refine g_fld C gk_J26 (k := 3) (by decide) q831 (Or.inl rfl) dJ26_next_11 (gR_v hv4) ?_
  obtain ⟨v5, hv5, hd⟩ := Option.bind_eq_some_iff.mp hd
  refine g_fldN C gk_J2 (k := 2) (by decide) q167 rfl dJ26_next_14 (gI_v hv5) ?_
  refine g_icmp_lt (tgt := 28) C dJ26_next_17 (by decide) hd (fun hd => ?_) (fun hd => ?_)
  · refine g_aload_n C dJ26_next_28 rfl 1 rfl ?_
    obtain ⟨v6, hv6, hd⟩ := Option.bind_eq_some_iff.mp hd
    refine g_fld C gk_J26 (k := 3) (by decide) q831 (Or.inl rfl) dJ26_next_29 (gR_v hv6) ?_
    obtain ⟨v7, hv7, hd⟩ := Option.bind_eq_some_iff.mp hd
    refine g_fld C gk_J2 (k := 1) (by decide) q166 (Or.inl rfl) dJ26_next_32 (gR_v hv7) ?_
    refine g_astore_n (L' := [(2, vR v7), (1, vI v3), (0, vR x0)]) C dJ26_next_35 rfl (by decide) rfl ?_
    refine g_iload_n C dJ26_next_36 rfl 1 rfl ?_
    refine g_aload_n C dJ26_next_37 rfl 0 rfl ?_
    obtain ⟨v8, hv8, hd⟩ := Option.bind_eq_some_iff.mp hd
    refine g_alen C dJ26_next_38 hv8 ?_
    refine g_icmp_lt (tgt := 50) C dJ26_next_39 (by decide) hd (fun hd => ?_) (fun hd => ?_)
    · refine g_aload_n C dJ26_next_50 rfl 2 rfl ?_
      refine g_iload_n C dJ26_next_51 rfl 1 rfl ?_
      refine g_iconst (v := 1) C dJ26_next_52 (by decide) ?_
      refine g_iadd C dJ26_next_53 ?_
      obtain ⟨S9, hS9, hd⟩ := Option.bind_eq_some_iff.mp hd
      refine g_put C gk_J26 (k := 0) (by decide) q828 (Or.inl rfl) rfl dJ26_next_54 (gfit_ok (pI_v hS9).1).1 (gfit_ok (pI_v hS9).1).2 (pI_v hS9).2 ?_
      refine g_aload_n C dJ26_next_57 rfl 0 rfl ?_
      refine g_aload_n C dJ26_next_58 rfl 2 rfl ?_
      refine g_iload_n C dJ26_next_59 rfl 1 rfl ?_
      refine g_dup_x1 C dJ26_next_60 rfl rfl ?_
      obtain ⟨S10, hS10, hd⟩ := Option.bind_eq_some_iff.mp hd
      refine g_put C gk_J26 (k := 1) (by decide) q829 (Or.inl rfl) rfl dJ26_next_61 (gfit_ok (pI_v hS10).1).1 (gfit_ok (pI_v hS10).1).2 (pI_v hS10).2 ?_
      obtain ⟨v11, hv11, hd⟩ := Option.bind_eq_some_iff.mp hd
      refine g_aald C 4 (by decide) dJ26_next_64 hv11 ?_
      exact g_aret C Q (Or.inl ⟨_, rfl⟩) hd dJ26_next_65
    · cases hd
  · cases hd
theorem m_J26_next {Γ : GG} {HI : St → Heap → Prop} {l : Launch} (E : EL Γ HI l) {S : St} {a0 : Option Nat} {r : Option Nat} {S1 : St} (h : n_J26_next S a0 = some (r, S1)) : MS Γ HI l yJ26_next cJ26_next 3 (some (Jvm.ClassFile.FieldType.object "java/lang/Object")) 3 S [vR a0] (.inl (some (vR r))) S1 := by
  refine MS_of E.ntr E.hx (by decide +kernel) rfl (Nat.le_of_ble_eq_true rfl) fun K e1 e2 e3 e4 hnm C Q => ?_
  subst e1; subst e2; subst e3
  exact w_J26_next_b0m C E Q S a0 h

def n_J26_remove (S : St) (x0 : Option Nat) : Option (Unit × St) :=
  (gI S x0 12 1).bind fun v1 =>
  if 0 ≤ v1 then
    gd (grc S x0 12) <|
    bn (n_J26_checkForComodification S x0) fun _ S2 =>
    (gR S2 x0 12 3).bind fun v4 =>
    (gI S2 x0 12 1).bind fun v5 =>
    gd (grc S2 v4 8) <|
    bn (n_J2_remove S2 v4 v5) fun v7 S6 =>
    (gI S6 x0 12 1).bind fun v8 =>
    (pI .int S6 x0 12 0 v8).bind fun S9 =>
    (pI .int S9 x0 12 1 (-1 : Int32)).bind fun S10 =>
    (gR S10 x0 12 3).bind fun v11 =>
    (gI S10 v11 8 0).bind fun v12 =>
    (pI .int S10 x0 12 2 v12).bind fun S13 =>
    some ((), S13)
  else
    none
theorem w_J26_remove_b0m {K : KT} {r : Unit} {S1 : St} (C : GC K RJ26 cJ26_remove 2 5 (g_tab [(19, 55, 58, 51)])) (E : EL (kΓ K) (kHI K) (kl K)) (Q : GQ K none (.inl none) S1) : ∀ (S : St) (x0 : Option Nat), n_J26_remove S x0 = some (r, S1) → G K 2 S 0 [(0, vR x0)] [] := by
  intro S x0 hd
  unfold n_J26_remove at hd
  refine g_aload_n C dJ26_remove_0 rfl 0 rfl ?_
  obtain ⟨v1, hv1, hd⟩ := Option.bind_eq_some_iff.mp hd
  refine g_fld C gk_J26 (k := 1) (by decide) q829 (Or.inl rfl) dJ26_remove_1 (gI_v hv1) ?_
  refine g_if_ge (tgt := 15) C dJ26_remove_4 (by decide) hd (fun hd => ?_) (fun hd => ?_)
  · refine g_aload_n C dJ26_remove_15 rfl 0 rfl ?_
    obtain ⟨hg, hd⟩ := gd_some hd
    obtain ⟨_, S2, hc, hd⟩ := bn_some hd
    refine g_cV_n (n := 0) C (gk_J26).1 q1037 q1038 q1039 q125 q1042 (by decide +kernel) (by decide) (by decide) dJ26_remove_16 (As := []) (rest := []) rfl rfl (Nat.le_of_ble_eq_true rfl) hg (m_J26_checkForComodification E hc) ?_
    refine g_aload_n C dJ26_remove_19 rfl 0 rfl ?_
    obtain ⟨v4, hv4, hd⟩ := Option.bind_eq_some_iff.mp hd
    refine g_fld C gk_J26 (k := 3) (by decide) q831 (Or.inl rfl) dJ26_remove_20 (gR_v hv4) ?_
    refine g_aload_n C dJ26_remove_23 rfl 0 rfl ?_
    obtain ⟨v5, hv5, hd⟩ := Option.bind_eq_some_iff.mp hd
    refine g_fld C gk_J26 (k := 1) (by decide) q829 (Or.inl rfl) dJ26_remove_24 (gI_v hv5) ?_
    obtain ⟨hg, hd⟩ := gd_some hd
    obtain ⟨v7, S6, hc, hd⟩ := bn_some hd
    refine g_cV_v (n := 1) C (gk_J2).1 q1348 q1313 q2422 q98 q1314 (by decide +kernel) (by decide) (by decide) dJ26_remove_27 (As := [vI v5]) (rest := []) rfl rfl (Nat.le_of_ble_eq_true rfl) hg (m_J2_remove E hc) ?_
    refine g_pop C dJ26_remove_30 rfl ?_
    refine g_aload_n C dJ26_remove_31 rfl 0 rfl ?_
    refine g_aload_n C dJ26_remove_32 rfl 0 rfl ?_
    obtain ⟨v8, hv8, hd⟩ := Option.bind_eq_some_iff.mp hd
    refine g_fld C gk_J26 (k := 1) (by decide) q829 (Or.inl rfl) dJ26_remove_33 (gI_v hv8) ?_
    obtain ⟨S9, hS9, hd⟩ := Option.bind_eq_some_iff.mp hd
    refine g_put C gk_J26 (k := 0) (by decide) q828 (Or.inl rfl) rfl dJ26_remove_36 (gfit_ok (pI_v hS9).1).1 (gfit_ok (pI_v hS9).1).2 (pI_v hS9).2 ?_
    refine g_aload_n C dJ26_remove_39 rfl 0 rfl ?_
    refine g_iconst (v := (-1)) C dJ26_remove_40 (by decide) ?_
    obtain ⟨S10, hS10, hd⟩ := Option.bind_eq_some_iff.mp hd
    refine g_put C gk_J26 (k := 1) (by decide) q829 (Or.inl rfl) rfl dJ26_remove_41 (gfit_ok (pI_v hS10).1).1 (gfit_ok (pI_v hS10).1).2 (pI_v hS10).2 ?_
    refine g_aload_n C dJ26_remove_44 rfl 0 rfl ?_
    refine g_aload_n C dJ26_remove_45 rfl 0 rfl ?_
    obtain ⟨v11, hv11, hd⟩ := Option.bind_eq_some_iff.mp hd
    refine g_fld C gk_J26 (k := 3) (by decide) q831 (Or.inl rfl) dJ26_remove_46 (gR_v hv11) ?_
    obtain ⟨v12, hv12, hd⟩ := Option.bind_eq_some_iff.mp hd
    refine g_fld C gk_J2 (k := 0) (by decide) q172 (Or.inr q173) dJ26_remove_49 (gI_v hv12) ?_
    obtain ⟨S13, hS13, hd⟩ := Option.bind_eq_some_iff.mp hd
    refine g_put C gk_J26 (k := 2) (by decide) q830 (Or.inl rfl) rfl dJ26_remove_52 (gfit_ok (pI_v hS13).1).1 (gfit_ok (pI_v hS13).1).2 (pI_v hS13).2 ?_
    refine g_goto (tgt := 67) C dJ26_remove_55 (by decide) ?_
    exact g_vret C Q hd dJ26_remove_67
  · cases hd
theorem m_J26_remove {Γ : GG} {HI : St → Heap → Prop} {l : Launch} (E : EL Γ HI l) {S : St} {a0 : Option Nat} {r : Unit} {S1 : St} (h : n_J26_remove S a0 = some (r, S1)) : MSW Γ HI l yJ26_remove cJ26_remove 2 none [(19, 55, 58, 51)] 5 S [vR a0] (.inl none) S1 := by
  refine MSW_of E.ntr E.hx (by decide +kernel) rfl (Nat.le_of_ble_eq_true rfl) fun K e1 e2 e3 e4 hnm C Q => ?_
  subst e1; subst e2; subst e3
  exact w_J26_remove_b0m C E Q S a0 h

def n_J1_init_9 (S : St) (x0 : Option Nat) : Option (Unit × St) :=
  gd (x0).isSome <|
  bn (n_J0_init S x0) fun _ S1 =>
  (pI .int S1 x0 9 0 (0 : Int32)).bind fun S3 =>
  some ((), S3)
theorem w_J1_init_9_b0m {K : KT} {r : Unit} {S1 : St} (C : GC K RJ1 cJ1_init 1 3 []) (E : EL (kΓ K) (kHI K) (kl K)) (Q : GQ K none (.inl none) S1) (hnm : kLv K → (kme K).name = "<init>") : ∀ (S : St) (x0 : Option Nat), n_J1_init_9 S x0 = some (r, S1) → G K 1 S 0 [(0, vR x0)] [] := by
  intro S x0 hd
  unfold n_J1_init_9 at hd
  refine g_aload_n C dJ1_init_0 rfl 0 rfl ?_
  obtain ⟨hg, hd⟩ := gd_some hd
  obtain ⟨_, S1, hc, hd⟩ := bn_some hd
  refine g_cI_n (n := 0) C q159 q160 q96 q161 rfl (by decide +kernel) (by decide) (by decide) dJ1_init_1 (As := []) (rest := []) rfl rfl (Nat.le_of_ble_eq_true rfl) hg (m_J0_init E hc) ?_
  refine g_aload_n C dJ1_init_4 rfl 0 rfl ?_
  refine g_iconst (v := 0) C dJ1_init_5 (by decide) ?_
  obtain ⟨S3, hS3, hd⟩ := Option.bind_eq_some_iff.mp hd
  refine g_put C gk_J4 (k := 0) (by decide) q169 (Or.inl rfl) rfl dJ1_init_6 (gfit_ok (pI_v hS3).1).1 (gfit_ok (pI_v hS3).1).2 (pI_v hS3).2 ?_
  exact g_vret C Q hd dJ1_init_9
theorem m_J1_init_9 {Γ : GG} {HI : St → Heap → Prop} {l : Launch} (E : EL Γ HI l) {S : St} {a0 : Option Nat} {r : Unit} {S1 : St} (h : n_J1_init_9 S a0 = some (r, S1)) : MS Γ HI l yJ1_init cJ1_init 1 none 3 S [vR a0] (.inl none) S1 := by
  refine MS_of E.ntr E.hx (by decide +kernel) rfl (Nat.le_of_ble_eq_true rfl) fun K e1 e2 e3 e4 hnm C Q => ?_
  subst e1; subst e2; subst e3
  exact w_J1_init_9_b0m C E Q (by exact hnm) S a0 h

def n_J3_init (S : St) (x0 : Option Nat) : Option (Unit × St) :=
  gd (x0).isSome <|
  bn (n_J1_init_9 S x0) fun _ S1 =>
  some ((), S1)
theorem w_J3_init_b0m {K : KT} {r : Unit} {S1 : St} (C : GC K RJ3 cJ3_init 1 4 []) (E : EL (kΓ K) (kHI K) (kl K)) (Q : GQ K none (.inl none) S1) (hnm : kLv K → (kme K).name = "<init>") : ∀ (S : St) (x0 : Option Nat), n_J3_init S x0 = some (r, S1) → G K 1 S 0 [(0, vR x0)] [] := by
  intro S x0 hd
  unfold n_J3_init at hd
  refine g_aload_n C dJ3_init_0 rfl 0 rfl ?_
  obtain ⟨hg, hd⟩ := gd_some hd
  obtain ⟨_, S1, hc, hd⟩ := bn_some hd
  refine g_cI_n (n := 0) C q192 q157 q97 q158 rfl (by decide +kernel) (by decide) (by decide) dJ3_init_1 (As := []) (rest := []) rfl rfl (Nat.le_of_ble_eq_true rfl) hg (m_J1_init_9 E hc) ?_
  exact g_vret C Q hd dJ3_init_4
theorem m_J3_init {Γ : GG} {HI : St → Heap → Prop} {l : Launch} (E : EL Γ HI l) {S : St} {a0 : Option Nat} {r : Unit} {S1 : St} (h : n_J3_init S a0 = some (r, S1)) : MS Γ HI l yJ3_init cJ3_init 1 none 4 S [vR a0] (.inl none) S1 := by
  refine MS_of E.ntr E.hx (by decide +kernel) rfl (Nat.le_of_ble_eq_true rfl) fun K e1 e2 e3 e4 hnm C Q => ?_
  subst e1; subst e2; subst e3
  exact w_J3_init_b0m C E Q (by exact hnm) S a0 h

def n_J4_init (S : St) (x0 : Option Nat) : Option (Unit × St) :=
  gd (x0).isSome <|
  bn (n_J3_init S x0) fun _ S1 =>
  (pI .int S1 x0 9 1 (0 : Int32)).bind fun S3 =>
  some ((), S3)
theorem w_J4_init_b0m {K : KT} {r : Unit} {S1 : St} (C : GC K RJ4 cJ4_init 1 5 []) (E : EL (kΓ K) (kHI K) (kl K)) (Q : GQ K none (.inl none) S1) (hnm : kLv K → (kme K).name = "<init>") : ∀ (S : St) (x0 : Option Nat), n_J4_init S x0 = some (r, S1) → G K 1 S 0 [(0, vR x0)] [] := by
  intro S x0 hd
  unfold n_J4_init at hd
  refine g_aload_n C dJ4_init_0 rfl 0 rfl ?_
  obtain ⟨hg, hd⟩ := gd_some hd
  obtain ⟨_, S1, hc, hd⟩ := bn_some hd
  refine g_cI_n (n := 0) C q189 q190 q99 q191 rfl (by decide +kernel) (by decide) (by decide) dJ4_init_1 (As := []) (rest := []) rfl rfl (Nat.le_of_ble_eq_true rfl) hg (m_J3_init E hc) ?_
  refine g_aload_n C dJ4_init_4 rfl 0 rfl ?_
  refine g_iconst (v := 0) C dJ4_init_5 (by decide) ?_
  obtain ⟨S3, hS3, hd⟩ := Option.bind_eq_some_iff.mp hd
  refine g_put C gk_J4 (k := 1) (by decide) q193 (Or.inl rfl) rfl dJ4_init_6 (gfit_ok (pI_v hS3).1).1 (gfit_ok (pI_v hS3).1).2 (pI_v hS3).2 ?_
  exact g_vret C Q hd dJ4_init_9
theorem m_J4_init {Γ : GG} {HI : St → Heap → Prop} {l : Launch} (E : EL Γ HI l) {S : St} {a0 : Option Nat} {r : Unit} {S1 : St} (h : n_J4_init S a0 = some (r, S1)) : MS Γ HI l yJ4_init cJ4_init 1 none 5 S [vR a0] (.inl none) S1 := by
  refine MS_of E.ntr E.hx (by decide +kernel) rfl (Nat.le_of_ble_eq_true rfl) fun K e1 e2 e3 e4 hnm C Q => ?_
  subst e1; subst e2; subst e3
  exact w_J4_init_b0m C E Q (by exact hnm) S a0 h

def n_J9_init (S : St) (x0 : Option Nat) (x1 : Option Nat) (x2 : Option Nat) (x3 : Option Nat) : Option (Unit × St) :=
  gd (x0).isSome <|
  (pR S x0 11 0 x2).bind fun S1 =>
  (pR S1 x0 11 1 x3).bind fun S2 =>
  (pR S2 x0 11 2 x1).bind fun S3 =>
  some ((), S3)
theorem w_J9_init_b0m {K : KT} {r : Unit} {S1 : St} (C : GC K RJ9 cJ9_init 4 2 []) (E : EL (kΓ K) (kHI K) (kl K)) (Q : GQ K none (.inl none) S1) (hnm : kLv K → (kme K).name = "<init>") : ∀ (S : St) (x0 : Option Nat) (x1 : Option Nat) (x2 : Option Nat) (x3 : Option Nat), n_J9_init S x0 x1 x2 x3 = some (r, S1) → G K 4 S 0 [(0, vR x0), (1, vR x1), (2, vR x2), (3, vR x3)] [] := by
  intro S x0 x1 x2 x3 hd
  unfold n_J9_init at hd
  refine g_aload_n C dJ9_init_0 rfl 0 rfl ?_
  obtain ⟨hg, hd⟩ := gd_some hd
  refine g_objInit C q369 q149 q150 (by decide) dJ9_init_1 hg (Nat.le_of_ble_eq_true rfl) ?_
  refine g_aload_n C dJ9_init_4 rfl 0 rfl ?_
  refine g_aload_n C dJ9_init_5 rfl 2 rfl ?_
  obtain ⟨S1, hS1, hd⟩ := Option.bind_eq_some_iff.mp hd
  refine g_put C gk_J9 (k := 0) (by decide) q370 (Or.inl rfl) rfl dJ9_init_6 (fit_ref _ (Or.inl ⟨_, rfl⟩)).1 (fit_ref _ (Or.inl ⟨_, rfl⟩)).2 hS1 ?_
  refine g_aload_n C dJ9_init_9 rfl 0 rfl ?_
  refine g_aload_n C dJ9_init_10 rfl 3 rfl ?_
  obtain ⟨S2, hS2, hd⟩ := Option.bind_eq_some_iff.mp hd
  refine g_put C gk_J9 (k := 1) (by decide) q373 (Or.inl rfl) rfl dJ9_init_11 (fit_ref _ (Or.inl ⟨_, rfl⟩)).1 (fit_ref _ (Or.inl ⟨_, rfl⟩)).2 hS2 ?_
  refine g_aload_n C dJ9_init_14 rfl 0 rfl ?_
  refine g_aload_n C dJ9_init_15 rfl 1 rfl ?_
  obtain ⟨S3, hS3, hd⟩ := Option.bind_eq_some_iff.mp hd
  refine g_put C gk_J9 (k := 2) (by decide) q376 (Or.inl rfl) rfl dJ9_init_16 (fit_ref _ (Or.inl ⟨_, rfl⟩)).1 (fit_ref _ (Or.inl ⟨_, rfl⟩)).2 hS3 ?_
  exact g_vret C Q hd dJ9_init_19
theorem m_J9_init {Γ : GG} {HI : St → Heap → Prop} {l : Launch} (E : EL Γ HI l) {S : St} {a0 : Option Nat} {a1 : Option Nat} {a2 : Option Nat} {a3 : Option Nat} {r : Unit} {S1 : St} (h : n_J9_init S a0 a1 a2 a3 = some (r, S1)) : MS Γ HI l yJ9_init cJ9_init 4 none 2 S [vR a0, vR a1, vR a2, vR a3] (.inl none) S1 := by
  refine MS_of E.ntr E.hx (by decide +kernel) rfl (Nat.le_of_ble_eq_true rfl) fun K e1 e2 e3 e4 hnm C Q => ?_
  subst e1; subst e2; subst e3
  exact w_J9_init_b0m C E Q (by exact hnm) S a0 a1 a2 a3 h

def n_J4_linkLast_b38 (S : St) (x0 : Option Nat) : Option (Unit × St) :=
  (gI S x0 9 1).bind fun v1 =>
  (pI .int S x0 9 1 (v1 + (1 : Int32))).bind fun S2 =>
  (gI S2 x0 9 0).bind fun v3 =>
  (pI .int S2 x0 9 0 (v3 + (1 : Int32))).bind fun S4 =>
  some ((), S4)
def n_J4_linkLast (S : St) (x0 : Option Nat) (x1 : Option Nat) : Option (Unit × St) :=
  (gR S x0 9 3).bind fun v1 =>
  nwB S (cO 11 [vR none, vR none, vR none]) 3 fun q2 S3 =>
  gd (q2).isSome <|
  bn (n_J9_init S3 q2 v1 x1 none) fun _ S4 =>
  (pR S4 x0 9 3 q2).bind fun S6 =>
  if v1 = none then
    (pR S6 x0 9 2 q2).bind fun S8 =>
    n_J4_linkLast_b38 S8 x0
  else
    (pR S6 v1 11 1 q2).bind fun S7 =>
    n_J4_linkLast_b38 S7 x0
theorem w_J4_linkLast_b38 {K : KT} {r : Unit} {S1 : St} (C : GC K RJ4 cJ4_linkLast 4 3 []) (E : EL (kΓ K) (kHI K) (kl K)) (Q : GQ K none (.inl none) S1) : ∀ (S : St) (x0 : Option Nat), n_J4_linkLast_b38 S x0 = some (r, S1) → G K 4 S 38 [(0, vR x0)] [] := by
  intro S x0 hd
  unfold n_J4_linkLast_b38 at hd
  refine g_aload_n C dJ4_linkLast_38 rfl 0 rfl ?_
  refine g_dup C dJ4_linkLast_39 rfl ?_
  obtain ⟨v1, hv1, hd⟩ := Option.bind_eq_some_iff.mp hd
  refine g_fld C gk_J4 (k := 1) (by decide) q193 (Or.inl rfl) dJ4_linkLast_40 (gI_v hv1) ?_
  refine g_iconst (v := 1) C dJ4_linkLast_43 (by decide) ?_
  refine g_iadd C dJ4_linkLast_44 ?_
  obtain ⟨S2, hS2, hd⟩ := Option.bind_eq_some_iff.mp hd
  refine g_put C gk_J4 (k := 1) (by decide) q193 (Or.inl rfl) rfl dJ4_linkLast_45 (gfit_ok (pI_v hS2).1).1 (gfit_ok (pI_v hS2).1).2 (pI_v hS2).2 ?_
  refine g_aload_n C dJ4_linkLast_48 rfl 0 rfl ?_
  refine g_dup C dJ4_linkLast_49 rfl ?_
  obtain ⟨v3, hv3, hd⟩ := Option.bind_eq_some_iff.mp hd
  refine g_fld C gk_J4 (k := 0) (by decide) q175 (Or.inr q171) dJ4_linkLast_50 (gI_v hv3) ?_
  refine g_iconst (v := 1) C dJ4_linkLast_53 (by decide) ?_
  refine g_iadd C dJ4_linkLast_54 ?_
  obtain ⟨S4, hS4, hd⟩ := Option.bind_eq_some_iff.mp hd
  refine g_put C gk_J4 (k := 0) (by decide) q175 (Or.inr q171) rfl dJ4_linkLast_55 (gfit_ok (pI_v hS4).1).1 (gfit_ok (pI_v hS4).1).2 (pI_v hS4).2 ?_
  exact g_vret C Q hd dJ4_linkLast_58
theorem w_J4_linkLast_b0m {K : KT} {r : Unit} {S1 : St} (C : GC K RJ4 cJ4_linkLast 4 3 []) (E : EL (kΓ K) (kHI K) (kl K)) (Q : GQ K none (.inl none) S1) : ∀ (S : St) (x0 : Option Nat) (x1 : Option Nat), n_J4_linkLast S x0 x1 = some (r, S1) → G K 4 S 0 [(0, vR x0), (1, vR x1)] [] := by
  intro S x0 x1 hd
  unfold n_J4_linkLast at hd
  refine g_aload_n C dJ4_linkLast_0 rfl 0 rfl ?_
  obtain ⟨v1, hv1, hd⟩ := Option.bind_eq_some_iff.mp hd
  refine g_fld C gk_J4 (k := 3) (by decide) q196 (Or.inl rfl) dJ4_linkLast_1 (gR_v hv1) ?_
  refine g_astore_n (L' := [(2, vR v1), (0, vR x0), (1, vR x1)]) C dJ4_linkLast_4 rfl (by decide) rfl ?_
  refine g_new C gk_J9 (fun j hj => gdf_J9 j hj) q364 q365 q107 dJ4_linkLast_5 hd (fun q2 S3 hd => ?_)
  refine g_dup C dJ4_linkLast_8 rfl ?_
  refine g_aload_n C dJ4_linkLast_9 rfl 0 rfl ?_
  refine g_aload_n C dJ4_linkLast_10 rfl 2 rfl ?_
  refine g_null C dJ4_linkLast_11 ?_
  obtain ⟨hg, hd⟩ := gd_some hd
  obtain ⟨_, S4, hc, hd⟩ := bn_some hd
  refine g_cI_n (n := 3) C q366 q367 q107 q368 rfl (by decide +kernel) (by decide) (by decide) dJ4_linkLast_12 (As := [vR v1, vR x1, vR none]) (rest := [vR q2]) rfl rfl (Nat.le_of_ble_eq_true rfl) hg (m_J9_init E hc) ?_
  refine g_astore_n (L' := [(3, vR q2), (2, vR v1), (0, vR x0), (1, vR x1)]) C dJ4_linkLast_15 rfl (by decide) rfl ?_
  refine g_aload_n C dJ4_linkLast_16 rfl 2 rfl ?_
  refine g_aload_n C dJ4_linkLast_17 rfl 0 rfl ?_
  obtain ⟨S6, hS6, hd⟩ := Option.bind_eq_some_iff.mp hd
  refine g_put C gk_J4 (k := 3) (by decide) q196 (Or.inl rfl) rfl dJ4_linkLast_18 (fit_ref _ (Or.inl ⟨_, rfl⟩)).1 (fit_ref _ (Or.inl ⟨_, rfl⟩)).2 hS6 ?_
  refine g_aload_n C dJ4_linkLast_21 rfl 1 rfl ?_
  refine g_ifnonnull (tgt := 33) C dJ4_linkLast_22 (by decide) hd (fun hd => ?_) (fun hd => ?_)
  · refine g_aload_n C dJ4_linkLast_33 rfl 1 rfl ?_
    refine g_aload_n C dJ4_linkLast_34 rfl 0 rfl ?_
    obtain ⟨S7, hS7, hd⟩ := Option.bind_eq_some_iff.mp hd
    refine g_put C gk_J9 (k := 1) (by decide) q375 (Or.inl rfl) rfl dJ4_linkLast_35 (fit_ref _ (Or.inl ⟨_, rfl⟩)).1 (fit_ref _ (Or.inl ⟨_, rfl⟩)).2 hS7 ?_
    refine g_sub [2] rfl ?_
    exact w_J4_linkLast_b38 C E Q _ _ hd
  · refine g_aload_n C dJ4_linkLast_25 rfl 2 rfl ?_
    refine g_aload_n C dJ4_linkLast_26 rfl 0 rfl ?_
    obtain ⟨S8, hS8, hd⟩ := Option.bind_eq_some_iff.mp hd
    refine g_put C gk_J4 (k := 2) (by decide) q195 (Or.inl rfl) rfl dJ4_linkLast_27 (fit_ref _ (Or.inl ⟨_, rfl⟩)).1 (fit_ref _ (Or.inl ⟨_, rfl⟩)).2 hS8 ?_
    refine g_goto (tgt := 38) C dJ4_linkLast_30 (by decide) ?_
    refine g_sub [2] rfl ?_
    exact w_J4_linkLast_b38 C E Q _ _ hd
theorem m_J4_linkLast {Γ : GG} {HI : St → Heap → Prop} {l : Launch} (E : EL Γ HI l) {S : St} {a0 : Option Nat} {a1 : Option Nat} {r : Unit} {S1 : St} (h : n_J4_linkLast S a0 a1 = some (r, S1)) : MS Γ HI l yJ4_linkLast cJ4_linkLast 4 none 3 S [vR a0, vR a1] (.inl none) S1 := by
  refine MS_of E.ntr E.hx (by decide +kernel) rfl (Nat.le_of_ble_eq_true rfl) fun K e1 e2 e3 e4 hnm C Q => ?_
  subst e1; subst e2; subst e3
  exact w_J4_linkLast_b0m C E Q S a0 a1 h

def n_J4_add (S : St) (x0 : Option Nat) (x1 : Option Nat) : Option (Int32 × St) :=
  gd (grc S x0 9) <|
  bn (n_J4_linkLast S x0 x1) fun _ S1 =>
  rtI id (Jvm.ClassFile.FieldType.boolean) (1 : Int32) S1
theorem w_J4_add_b0m {K : KT} {r : Int32} {S1 : St} (C : GC K RJ4 cJ4_add 2 4 []) (E : EL (kΓ K) (kHI K) (kl K)) (Q : GQ K (some (Jvm.ClassFile.FieldType.boolean)) (.inl (some (vI r))) S1) : ∀ (S : St) (x0 : Option Nat) (x1 : Option Nat), n_J4_add S x0 x1 = some (r, S1) → G K 2 S 0 [(0, vR x0), (1, vR x1)] [] := by
  intro S x0 x1 hd
  unfold n_J4_add at hd
  refine g_aload_n C dJ4_add_0 rfl 0 rfl ?_
  refine g_aload_n C dJ4_add_1 rfl 1 rfl ?_
  obtain ⟨hg, hd⟩ := gd_some hd
  obtain ⟨_, S1, hc, hd⟩ := bn_some hd
  refine g_cV_n (n := 1) C (gk_J4).1 q360 q361 q362 q100 q363 (by decide +kernel) (by decide) (by decide) dJ4_add_2 (As := [vR x1]) (rest := []) rfl rfl (Nat.le_of_ble_eq_true rfl) hg (m_J4_linkLast E hc) ?_
  refine g_iconst (v := 1) C dJ4_add_5 (by decide) ?_
  exact g_iret C Q hd dJ4_add_6
theorem m_J4_add {Γ : GG} {HI : St → Heap → Prop} {l : Launch} (E : EL Γ HI l) {S : St} {a0 : Option Nat} {a1 : Option Nat} {r : Int32} {S1 : St} (h : n_J4_add S a0 a1 = some (r, S1)) : MS Γ HI l yJ4_add cJ4_add 2 (some (Jvm.ClassFile.FieldType.boolean)) 4 S [vR a0, vR a1] (.inl (some (vI r))) S1 := by
  refine MS_of E.ntr E.hx (by decide +kernel) rfl (Nat.le_of_ble_eq_true rfl) fun K e1 e2 e3 e4 hnm C Q => ?_
  subst e1; subst e2; subst e3
  exact w_J4_add_b0m C E Q S a0 a1 h

def n_J4_size (S : St) (x0 : Option Nat) : Option (Int32 × St) :=
  (gI S x0 9 1).bind fun v1 =>
  rtI id (Jvm.ClassFile.FieldType.int) v1 S
theorem w_J4_size_b0m {K : KT} {r : Int32} {S1 : St} (C : GC K RJ4 cJ4_size 1 2 []) (E : EL (kΓ K) (kHI K) (kl K)) (Q : GQ K (some (Jvm.ClassFile.FieldType.int)) (.inl (some (vI r))) S1) : ∀ (S : St) (x0 : Option Nat), n_J4_size S x0 = some (r, S1) → G K 1 S 0 [(0, vR x0)] [] := by
  intro S x0 hd
  unfold n_J4_size at hd
  refine g_aload_n C dJ4_size_0 rfl 0 rfl ?_
  obtain ⟨v1, hv1, hd⟩ := Option.bind_eq_some_iff.mp hd
  refine g_fld C gk_J4 (k := 1) (by decide) q193 (Or.inl rfl) dJ4_size_1 (gI_v hv1) ?_
  exact g_iret C Q hd dJ4_size_4
theorem m_J4_size {Γ : GG} {HI : St → Heap → Prop} {l : Launch} (E : EL Γ HI l) {S : St} {a0 : Option Nat} {r : Int32} {S1 : St} (h : n_J4_size S a0 = some (r, S1)) : MS Γ HI l yJ4_size cJ4_size 1 (some (Jvm.ClassFile.FieldType.int)) 2 S [vR a0] (.inl (some (vI r))) S1 := by
  refine MS_of E.ntr E.hx (by decide +kernel) rfl (Nat.le_of_ble_eq_true rfl) fun K e1 e2 e3 e4 hnm C Q => ?_
  subst e1; subst e2; subst e3
  exact w_J4_size_b0m C E Q S a0 h

def n_J4_clear_b5 : Nat → St → Option Nat → Option Nat → Option (Unit × St)
  | 0 => fun _ _ _ => none
  | n + 1 => fun S x0 x1 =>
    if x1 = none then
      (pR S x0 9 3 none).bind fun S1 =>
      (pR S1 x0 9 2 none).bind fun S2 =>
      (pI .int S2 x0 9 1 (0 : Int32)).bind fun S3 =>
      (gI S3 x0 9 0).bind fun v4 =>
      (pI .int S3 x0 9 0 (v4 + (1 : Int32))).bind fun S5 =>
      some ((), S5)
    else
      (gR S x1 11 1).bind fun v6 =>
      (pR S x1 11 0 none).bind fun S7 =>
      (pR S7 x1 11 1 none).bind fun S8 =>
      (pR S8 x1 11 2 none).bind fun S9 =>
      (n_J4_clear_b5 n) S9 x0 v6
def n_J4_clear (S : St) (x0 : Option Nat) : Option (Unit × St) :=
  (gR S x0 9 2).bind fun v1 =>
  n_J4_clear_b5 FU S x0 v1
theorem w_J4_clear_b5 {K : KT} {r : Unit} {S1 : St} (C : GC K RJ4 cJ4_clear 3 2 []) (E : EL (kΓ K) (kHI K) (kl K)) (Q : GQ K none (.inl none) S1) : ∀ (n : Nat) (S : St) (x0 : Option Nat) (x1 : Option Nat), n_J4_clear_b5 n S x0 x1 = some (r, S1) → G K 3 S 5 [(0, vR x0), (1, vR x1)] [] := by
  intro n
  induction n with
  | zero => intro S x0 x1 hd; cases hd
  | succ n ih =>
    intro S x0 x1 hd
    unfold n_J4_clear_b5 at hd
    refine g_aload_n C dJ4_clear_5 rfl 1 rfl ?_
    refine g_ifnull (tgt := 34) C dJ4_clear_6 (by decide) hd (fun hd => ?_) (fun hd => ?_)
    · refine g_aload_n C dJ4_clear_34 rfl 0 rfl ?_
      refine g_aload_n C dJ4_clear_35 rfl 0 rfl ?_
      refine g_null C dJ4_clear_36 ?_
      refine g_dup_x1 C dJ4_clear_37 rfl rfl ?_
      obtain ⟨S1, hS1, hd⟩ := Option.bind_eq_some_iff.mp hd
      refine g_put C gk_J4 (k := 3) (by decide) q196 (Or.inl rfl) rfl dJ4_clear_38 (fit_ref _ (Or.inl ⟨_, rfl⟩)).1 (fit_ref _ (Or.inl ⟨_, rfl⟩)).2 hS1 ?_
      obtain ⟨S2, hS2, hd⟩ := Option.bind_eq_some_iff.mp hd
      refine g_put C gk_J4 (k := 2) (by decide) q195 (Or.inl rfl) rfl dJ4_clear_41 (fit_ref _ (Or.inl ⟨_, rfl⟩)).1 (fit_ref _ (Or.inl ⟨_, rfl⟩)).2 hS2 ?_
      refine g_aload_n C dJ4_clear_44 rfl 0 rfl ?_
      refine g_iconst (v := 0) C dJ4_clear_45 (by decide) ?_
      obtain ⟨S3, hS3, hd⟩ := Option.bind_eq_some_iff.mp hd
      refine g_put C gk_J4 (k := 1) (by decide) q193 (Or.inl rfl) rfl dJ4_clear_46 (gfit_ok (pI_v hS3).1).1 (gfit_ok (pI_v hS3).1).2 (pI_v hS3).2 ?_
      refine g_aload_n C dJ4_clear_49 rfl 0 rfl ?_
      refine g_dup C dJ4_clear_50 rfl ?_
      obtain ⟨v4, hv4, hd⟩ := Option.bind_eq_some_iff.mp hd
      refine g_fld C gk_J4 (k := 0) (by decide) q175 (Or.inr q171) dJ4_clear_51 (gI_v hv4) ?_
      refine g_iconst (v := 1) C dJ4_clear_54 (by decide) ?_
      refine g_iadd C dJ4_clear_55 ?_
      obtain ⟨S5, hS5, hd⟩ := Option.bind_eq_some_iff.mp hd
      refine g_put C gk_J4 (k := 0) (by decide) q175 (Or.inr q171) rfl dJ4_clear_56 (gfit_ok (pI_v hS5).1).1 (gfit_ok (pI_v hS5).1).2 (pI_v hS5).2 ?_
      exact g_vret C Q hd dJ4_clear_59
    · refine g_aload_n C dJ4_clear_9 rfl 1 rfl ?_
      obtain ⟨v6, hv6, hd⟩ := Option.bind_eq_some_iff.mp hd
      refine g_fld C gk_J9 (k := 1) (by decide) q375 (Or.inl rfl) dJ4_clear_10 (gR_v hv6) ?_
      refine g_astore_n (L' := [(2, vR v6), (0, vR x0), (1, vR x1)]) C dJ4_clear_13 rfl (by decide) rfl ?_
      refine g_aload_n C dJ4_clear_14 rfl 2 rfl ?_
      refine g_null C dJ4_clear_15 ?_
      obtain ⟨S7, hS7, hd⟩ := Option.bind_eq_some_iff.mp hd
      refine g_put C gk_J9 (k := 0) (by decide) q372 (Or.inl rfl) rfl dJ4_clear_16 (fit_ref _ (Or.inl ⟨_, rfl⟩)).1 (fit_ref _ (Or.inl ⟨_, rfl⟩)).2 hS7 ?_
      refine g_aload_n C dJ4_clear_19 rfl 2 rfl ?_
      refine g_null C dJ4_clear_20 ?_
      obtain ⟨S8, hS8, hd⟩ := Option.bind_eq_some_iff.mp hd
      refine g_put C gk_J9 (k := 1) (by decide) q375 (Or.inl rfl) rfl dJ4_clear_21 (fit_ref _ (Or.inl ⟨_, rfl⟩)).1 (fit_ref _ (Or.inl ⟨_, rfl⟩)).2 hS8 ?_
      refine g_aload_n C dJ4_clear_24 rfl 2 rfl ?_
      refine g_null C dJ4_clear_25 ?_
      obtain ⟨S9, hS9, hd⟩ := Option.bind_eq_some_iff.mp hd
      refine g_put C gk_J9 (k := 2) (by decide) q377 (Or.inl rfl) rfl dJ4_clear_26 (fit_ref _ (Or.inl ⟨_, rfl⟩)).1 (fit_ref _ (Or.inl ⟨_, rfl⟩)).2 hS9 ?_
      refine g_aload_n C dJ4_clear_29 rfl 0 rfl ?_
      refine g_astore_n (L' := [(1, vR v6), (2, vR v6), (0, vR x0)]) C dJ4_clear_30 rfl (by decide) rfl ?_
      refine g_goto (tgt := 5) C dJ4_clear_31 (by decide) ?_
      refine g_sub [2, 0] rfl ?_
      exact ih _ _ _ hd
theorem w_J4_clear_b0m {K : KT} {r : Unit} {S1 : St} (C : GC K RJ4 cJ4_clear 3 2 []) (E : EL (kΓ K) (kHI K) (kl K)) (Q : GQ K none (.inl none) S1) : ∀ (S : St) (x0 : Option Nat), n_J4_clear S x0 = some (r, S1) → G K 3 S 0 [(0, vR x0)] [] := by
  intro S x0 hd
  unfold n_J4_clear at hd
  refine g_aload_n C dJ4_clear_0 rfl 0 rfl ?_
  obtain ⟨v1, hv1, hd⟩ := Option.bind_eq_some_iff.mp hd
  refine g_fld C gk_J4 (k := 2) (by decide) q195 (Or.inl rfl) dJ4_clear_1 (gR_v hv1) ?_
  refine g_astore_n (L' := [(1, vR v1), (0, vR x0)]) C dJ4_clear_4 rfl (by decide) rfl ?_
  refine g_sub [1, 0] rfl ?_
  exact w_J4_clear_b5 C E Q FU _ _ _ hd
theorem m_J4_clear {Γ : GG} {HI : St → Heap → Prop} {l : Launch} (E : EL Γ HI l) {S : St} {a0 : Option Nat} {r : Unit} {S1 : St} (h : n_J4_clear S a0 = some (r, S1)) : MS Γ HI l yJ4_clear cJ4_clear 3 none 2 S [vR a0] (.inl none) S1 := by
  refine MS_of E.ntr E.hx (by decide +kernel) rfl (Nat.le_of_ble_eq_true rfl) fun K e1 e2 e3 e4 hnm C Q => ?_
  subst e1; subst e2; subst e3
  exact w_J4_clear_b0m C E Q S a0 h

def n_J4_addLast (S : St) (x0 : Option Nat) (x1 : Option Nat) : Option (Unit × St) :=
  gd (grc S x0 9) <|
  bn (n_J4_linkLast S x0 x1) fun _ S1 =>
  some ((), S1)
theorem w_J4_addLast_b0m {K : KT} {r : Unit} {S1 : St} (C : GC K RJ4 cJ4_addLast 2 4 []) (E : EL (kΓ K) (kHI K) (kl K)) (Q : GQ K none (.inl none) S1) : ∀ (S : St) (x0 : Option Nat) (x1 : Option Nat), n_J4_addLast S x0 x1 = some (r, S1) → G K 2 S 0 [(0, vR x0), (1, vR x1)] [] := by
  intro S x0 x1 hd
  unfold n_J4_addLast at hd
  refine g_aload_n C dJ4_addLast_0 rfl 0 rfl ?_
  refine g_aload_n C dJ4_addLast_1 rfl 1 rfl ?_
  obtain ⟨hg, hd⟩ := gd_some hd
  obtain ⟨_, S1, hc, hd⟩ := bn_some hd
  refine g_cV_n (n := 1) C (gk_J4).1 q360 q361 q362 q100 q363 (by decide +kernel) (by decide) (by decide) dJ4_addLast_2 (As := [vR x1]) (rest := []) rfl rfl (Nat.le_of_ble_eq_true rfl) hg (m_J4_linkLast E hc) ?_
  exact g_vret C Q hd dJ4_addLast_5
theorem m_J4_addLast {Γ : GG} {HI : St → Heap → Prop} {l : Launch} (E : EL Γ HI l) {S : St} {a0 : Option Nat} {a1 : Option Nat} {r : Unit} {S1 : St} (h : n_J4_addLast S a0 a1 = some (r, S1)) : MS Γ HI l yJ4_addLast cJ4_addLast 2 none 4 S [vR a0, vR a1] (.inl none) S1 := by
  refine MS_of E.ntr E.hx (by decide +kernel) rfl (Nat.le_of_ble_eq_true rfl) fun K e1 e2 e3 e4 hnm C Q => ?_
  subst e1; subst e2; subst e3
  exact w_J4_addLast_b0m C E Q S a0 a1 h

def n_J4_getLast (S : St) (x0 : Option Nat) : Option (Option Nat × St) :=
  (gR S x0 9 3).bind fun v1 =>
  if v1 = none then
    none
  else
    (gR S v1 11 0).bind fun v2 =>
    some (v2, S)
theorem w_J4_getLast_b0m {K : KT} {r : Option Nat} {S1 : St} (C : GC K RJ4 cJ4_getLast 2 2 []) (E : EL (kΓ K) (kHI K) (kl K)) (Q : GQ K (some (Jvm.ClassFile.FieldType.object "java/lang/Object")) (.inl (some (vR r))) S1) : ∀ (S : St) (x0 : Option Nat), n_J4_getLast S x0 = some (r, S1) → G K 2 S 0 [(0, vR x0)] [] := by
  intro S x0 hd
  unfold n_J4_getLast at hd
  refine g_aload_n C dJ4_getLast_0 rfl 0 rfl ?_
  obtain ⟨v1, hv1, hd⟩ := Option.bind_eq_some_iff.mp hd
  refine g_fld C gk_J4 (k := 3) (by decide) q196 (Or.inl rfl) dJ4_getLast_1 (gR_v hv1) ?_
  refine g_astore_n (L' := [(1, vR v1), (0, vR x0)]) C dJ4_getLast_4 rfl (by decide) rfl ?_
  refine g_aload_n C dJ4_getLast_5 rfl 0 rfl ?_
  refine g_ifnonnull (tgt := 17) C dJ4_getLast_6 (by decide) hd (fun hd => ?_) (fun hd => ?_)
  · refine g_aload_n C dJ4_getLast_17 rfl 0 rfl ?_
    obtain ⟨v2, hv2, hd⟩ := Option.bind_eq_some_iff.mp hd
    refine g_fld C gk_J9 (k := 0) (by decide) q372 (Or.inl rfl) dJ4_getLast_18 (gR_v hv2) ?_
    exact g_aret C Q (Or.inl ⟨_, rfl⟩) hd dJ4_getLast_21
  · cases hd
theorem m_J4_getLast {Γ : GG} {HI : St → Heap → Prop} {l : Launch} (E : EL Γ HI l) {S : St} {a0 : Option Nat} {r : Option Nat} {S1 : St} (h : n_J4_getLast S a0 = some (r, S1)) : MS Γ HI l yJ4_getLast cJ4_getLast 2 (some (Jvm.ClassFile.FieldType.object "java/lang/Object")) 2 S [vR a0] (.inl (some (vR r))) S1 := by
  refine MS_of E.ntr E.hx (by decide +kernel) rfl (Nat.le_of_ble_eq_true rfl) fun K e1 e2 e3 e4 hnm C Q => ?_
  subst e1; subst e2; subst e3
  exact w_J4_getLast_b0m C E Q S a0 h

def n_J4_unlinkLast_b42 (S : St) (x0 : Option Nat) (x2 : Option Nat) : Option (Option Nat × St) :=
  (gI S x0 9 1).bind fun v1 =>
  (pI .int S x0 9 1 (v1 - (1 : Int32))).bind fun S2 =>
  (gI S2 x0 9 0).bind fun v3 =>
  (pI .int S2 x0 9 0 (v3 + (1 : Int32))).bind fun S4 =>
  some (x2, S4)
def n_J4_unlinkLast (S : St) (x0 : Option Nat) (x1 : Option Nat) : Option (Option Nat × St) :=
  (gR S x1 11 0).bind fun v1 =>
  (gR S x1 11 2).bind fun v2 =>
  (pR S x1 11 0 none).bind fun S3 =>
  (pR S3 x1 11 2 none).bind fun S4 =>
  (pR S4 x0 9 3 v2).bind fun S5 =>
  if v2 = none then
    (pR S5 x0 9 2 none).bind fun S7 =>
    n_J4_unlinkLast_b42 S7 x0 v1
  else
    (pR S5 v2 11 1 none).bind fun S6 =>
    n_J4_unlinkLast_b42 S6 x0 v1
theorem w_J4_unlinkLast_b42 {K : KT} {r : Option Nat} {S1 : St} (C : GC K RJ4 cJ4_unlinkLast 4 2 []) (E : EL (kΓ K) (kHI K) (kl K)) (Q : GQ K (some (Jvm.ClassFile.FieldType.object "java/lang/Object")) (.inl (some (vR r))) S1) : ∀ (S : St) (x0 : Option Nat) (x2 : Option Nat), n_J4_unlinkLast_b42 S x0 x2 = some (r, S1) → G K 4 S 42 [(0, vR x0), (2, vR x2)] [] := by
  intro S x0 x2 hd
  unfold n_J4_unlinkLast_b42 at hd
  refine g_aload_n C dJ4_unlinkLast_42 rfl 0 rfl ?_
  refine g_dup C dJ4_unlinkLast_43 rfl ?_
  obtain ⟨v1, hv1, hd⟩ := Option.bind_eq_some_iff.mp hd
  refine g_fld C gk_J4 (k := 1) (by decide) q193 (Or.inl rfl) dJ4_unlinkLast_44 (gI_v hv1) ?_
  refine g_iconst (v := 1) C dJ4_unlinkLast_47 (by decide) ?_
  refine g_isub C dJ4_unlinkLast_48 ?_
  obtain ⟨S2, hS2, hd⟩ := Option.bind_eq_some_iff.mp hd
  refine g_put C gk_J4 (k := 1) (by decide) q193 (Or.inl rfl) rfl dJ4_unlinkLast_49 (gfit_ok (pI_v hS2).1).1 (gfit_ok (pI_v hS2).1).2 (pI_v hS2).2 ?_
  refine g_aload_n C dJ4_unlinkLast_52 rfl 0 rfl ?_
  refine g_dup C dJ4_unlinkLast_53 rfl ?_
  obtain ⟨v3, hv3, hd⟩ := Option.bind_eq_some_iff.mp hd
  refine g_fld C gk_J4 (k := 0) (by decide) q175 (Or.inr q171) dJ4_unlinkLast_54 (gI_v hv3) ?_
  refine g_iconst (v := 1) C dJ4_unlinkLast_57 (by decide) ?_
  refine g_iadd C dJ4_unlinkLast_58 ?_
  obtain ⟨S4, hS4, hd⟩ := Option.bind_eq_some_iff.mp hd
  refine g_put C gk_J4 (k := 0) (by decide) q175 (Or.inr q171) rfl dJ4_unlinkLast_59 (gfit_ok (pI_v hS4).1).1 (gfit_ok (pI_v hS4).1).2 (pI_v hS4).2 ?_
  refine g_aload_n C dJ4_unlinkLast_62 rfl 1 rfl ?_
  exact g_aret C Q (Or.inl ⟨_, rfl⟩) hd dJ4_unlinkLast_63
theorem w_J4_unlinkLast_b0m {K : KT} {r : Option Nat} {S1 : St} (C : GC K RJ4 cJ4_unlinkLast 4 2 []) (E : EL (kΓ K) (kHI K) (kl K)) (Q : GQ K (some (Jvm.ClassFile.FieldType.object "java/lang/Object")) (.inl (some (vR r))) S1) : ∀ (S : St) (x0 : Option Nat) (x1 : Option Nat), n_J4_unlinkLast S x0 x1 = some (r, S1) → G K 4 S 0 [(0, vR x0), (1, vR x1)] [] := by
  intro S x0 x1 hd
  unfold n_J4_unlinkLast at hd
  refine g_aload_n C dJ4_unlinkLast_0 rfl 1 rfl ?_
  obtain ⟨v1, hv1, hd⟩ := Option.bind_eq_some_iff.mp hd
  refine g_fld C gk_J9 (k := 0) (by decide) q372 (Or.inl rfl) dJ4_unlinkLast_1 (gR_v hv1) ?_
  refine g_astore_n (L' := [(2, vR v1), (0, vR x0), (1, vR x1)]) C dJ4_unlinkLast_4 rfl (by decide) rfl ?_
  refine g_aload_n C dJ4_unlinkLast_5 rfl 2 rfl ?_
  obtain ⟨v2, hv2, hd⟩ := Option.bind_eq_some_iff.mp hd
  refine g_fld C gk_J9 (k := 2) (by decide) q377 (Or.inl rfl) dJ4_unlinkLast_6 (gR_v hv2) ?_
  refine g_astore_n (L' := [(3, vR v2), (2, vR v1), (0, vR x0), (1, vR x1)]) C dJ4_unlinkLast_9 rfl (by decide) rfl ?_
  refine g_aload_n C dJ4_unlinkLast_10 rfl 3 rfl ?_
  refine g_null C dJ4_unlinkLast_11 ?_
  obtain ⟨S3, hS3, hd⟩ := Option.bind_eq_some_iff.mp hd
  refine g_put C gk_J9 (k := 0) (by decide) q372 (Or.inl rfl) rfl dJ4_unlinkLast_12 (fit_ref _ (Or.inl ⟨_, rfl⟩)).1 (fit_ref _ (Or.inl ⟨_, rfl⟩)).2 hS3 ?_
  refine g_aload_n C dJ4_unlinkLast_15 rfl 3 rfl ?_
  refine g_null C dJ4_unlinkLast_16 ?_
  obtain ⟨S4, hS4, hd⟩ := Option.bind_eq_some_iff.mp hd
  refine g_put C gk_J9 (k := 2) (by decide) q377 (Or.inl rfl) rfl dJ4_unlinkLast_17 (fit_ref _ (Or.inl ⟨_, rfl⟩)).1 (fit_ref _ (Or.inl ⟨_, rfl⟩)).2 hS4 ?_
  refine g_aload_n C dJ4_unlinkLast_20 rfl 2 rfl ?_
  refine g_aload_n C dJ4_unlinkLast_21 rfl 0 rfl ?_
  obtain ⟨S5, hS5, hd⟩ := Option.bind_eq_some_iff.mp hd
  refine g_put C gk_J4 (k := 3) (by decide) q196 (Or.inl rfl) rfl dJ4_unlinkLast_22 (fit_ref _ (Or.inl ⟨_, rfl⟩)).1 (fit_ref _ (Or.inl ⟨_, rfl⟩)).2 hS5 ?_
  refine g_aload_n C dJ4_unlinkLast_25 rfl 0 rfl ?_
  refine g_ifnonnull (tgt := 37) C dJ4_unlinkLast_26 (by decide) hd (fun hd => ?_) (fun hd => ?_)
  · refine g_aload_n C dJ4_unlinkLast_37 rfl 0 rfl ?_
    refine g_null C dJ4_unlinkLast_38 ?_
    obtain ⟨S6, hS6, hd⟩ := Option.bind_eq_some_iff.mp hd
    refine g_put C gk_J9 (k := 1) (by decide) q375 (Or.inl rfl) rfl dJ4_unlinkLast_39 (fit_ref _ (Or.inl ⟨_, rfl⟩)).1 (fit_ref _ (Or.inl ⟨_, rfl⟩)).2 hS6 ?_
    refine g_sub [2, 1] rfl ?_
    exact w_J4_unlinkLast_b42 C E Q _ _ _ hd
  · refine g_aload_n C dJ4_unlinkLast_29 rfl 2 rfl ?_
    refine g_null C dJ4_unlinkLast_30 ?_
    obtain ⟨S7, hS7, hd⟩ := Option.bind_eq_some_iff.mp hd
    refine g_put C gk_J4 (k := 2) (by decide) q195 (Or.inl rfl) rfl dJ4_unlinkLast_31 (fit_ref _ (Or.inl ⟨_, rfl⟩)).1 (fit_ref _ (Or.inl ⟨_, rfl⟩)).2 hS7 ?_
    refine g_goto (tgt := 42) C dJ4_unlinkLast_34 (by decide) ?_
    refine g_sub [2, 1] rfl ?_
    exact w_J4_unlinkLast_b42 C E Q _ _ _ hd
theorem m_J4_unlinkLast {Γ : GG} {HI : St → Heap → Prop} {l : Launch} (E : EL Γ HI l) {S : St} {a0 : Option Nat} {a1 : Option Nat} {r : Option Nat} {S1 : St} (h : n_J4_unlinkLast S a0 a1 = some (r, S1)) : MS Γ HI l yJ4_unlinkLast cJ4_unlinkLast 4 (some (Jvm.ClassFile.FieldType.object "java/lang/Object")) 2 S [vR a0, vR a1] (.inl (some (vR r))) S1 := by
  refine MS_of E.ntr E.hx (by decide +kernel) rfl (Nat.le_of_ble_eq_true rfl) fun K e1 e2 e3 e4 hnm C Q => ?_
  subst e1; subst e2; subst e3
  exact w_J4_unlinkLast_b0m C E Q S a0 a1 h

def n_J4_removeLast (S : St) (x0 : Option Nat) : Option (Option Nat × St) :=
  (gR S x0 9 3).bind fun v1 =>
  if v1 = none then
    none
  else
    gd (grc S x0 9) <|
    bn (n_J4_unlinkLast S x0 v1) fun v3 S2 =>
    some (v3, S2)
theorem w_J4_removeLast_b0m {K : KT} {r : Option Nat} {S1 : St} (C : GC K RJ4 cJ4_removeLast 2 3 []) (E : EL (kΓ K) (kHI K) (kl K)) (Q : GQ K (some (Jvm.ClassFile.FieldType.object "java/lang/Object")) (.inl (some (vR r))) S1) : ∀ (S : St) (x0 : Option Nat), n_J4_removeLast S x0 = some (r, S1) → G K 2 S 0 [(0, vR x0)] [] := by
  intro S x0 hd
  unfold n_J4_removeLast at hd
  refine g_aload_n C dJ4_removeLast_0 rfl 0 rfl ?_
  obtain ⟨v1, hv1, hd⟩ := Option.bind_eq_some_iff.mp hd
  refine g_fld C gk_J4 (k := 3) (by decide) q196 (Or.inl rfl) dJ4_removeLast_1 (gR_v hv1) ?_
  refine g_astore_n (L' := [(1, vR v1), (0, vR x0)]) C dJ4_removeLast_4 rfl (by decide) rfl ?_
  refine g_aload_n C dJ4_removeLast_5 rfl 0 rfl ?_
  refine g_ifnonnull (tgt := 17) C dJ4_removeLast_6 (by decide) hd (fun hd => ?_) (fun hd => ?_)
  · refine g_aload_n C dJ4_removeLast_17 rfl 1 rfl ?_
    refine g_aload_n C dJ4_removeLast_18 rfl 0 rfl ?_
    obtain ⟨hg, hd⟩ := gd_some hd
    obtain ⟨v3, S2, hc, hd⟩ := bn_some hd
    refine g_cV_v (n := 1) C (gk_J4).1 q1546 q1548 qs28 q100 q1549 (by decide +kernel) (by decide) (by decide) dJ4_removeLast_19 (As := [vR v1]) (rest := []) rfl rfl (Nat.le_of_ble_eq_true rfl) hg (m_J4_unlinkLast E hc) ?_
    exact g_aret C Q (Or.inl ⟨_, rfl⟩) hd dJ4_removeLast_22
  · cases hd
theorem m_J4_removeLast {Γ : GG} {HI : St → Heap → Prop} {l : Launch} (E : EL Γ HI l) {S : St} {a0 : Option Nat} {r : Option Nat} {S1 : St} (h : n_J4_removeLast S a0 = some (r, S1)) : MS Γ HI l yJ4_removeLast cJ4_removeLast 2 (some (Jvm.ClassFile.FieldType.object "java/lang/Object")) 3 S [vR a0] (.inl (some (vR r))) S1 := by
  refine MS_of E.ntr E.hx (by decide +kernel) rfl (Nat.le_of_ble_eq_true rfl) fun K e1 e2 e3 e4 hnm C Q => ?_
  subst e1; subst e2; subst e3
  exact w_J4_removeLast_b0m C E Q S a0 h

def n_J4_unlinkFirst_b42 (S : St) (x0 : Option Nat) (x2 : Option Nat) : Option (Option Nat × St) :=
  (gI S x0 9 1).bind fun v1 =>
  (pI .int S x0 9 1 (v1 - (1 : Int32))).bind fun S2 =>
  (gI S2 x0 9 0).bind fun v3 =>
  (pI .int S2 x0 9 0 (v3 + (1 : Int32))).bind fun S4 =>
  some (x2, S4)
def n_J4_unlinkFirst (S : St) (x0 : Option Nat) (x1 : Option Nat) : Option (Option Nat × St) :=
  (gR S x1 11 0).bind fun v1 =>
  (gR S x1 11 1).bind fun v2 =>
  (pR S x1 11 0 none).bind fun S3 =>
  (pR S3 x1 11 1 none).bind fun S4 =>
  (pR S4 x0 9 2 v2).bind fun S5 =>
  if v2 = none then
    (pR S5 x0 9 3 none).bind fun S7 =>
    n_J4_unlinkFirst_b42 S7 x0 v1
  else
    (pR S5 v2 11 2 none).bind fun S6 =>
    n_J4_unlinkFirst_b42 S6 x0 v1
theorem w_J4_unlinkFirst_b42 {K : KT} {r : Option Nat} {S1 : St} (C : GC K RJ4 cJ4_unlinkFirst 4 2 []) (E : EL (kΓ K) (kHI K) (kl K)) (Q : GQ K (some (Jvm.ClassFile.FieldType.object "java/lang/Object")) (.inl (some (vR r))) S1) : ∀ (S : St) (x0 : Option Nat) (x2 : Option Nat), n_J4_unlinkFirst_b42 S x0 x2 = some (r, S1) → G K 4 S 42 [(0, vR x0), (2, vR x2)] [] := by
  intro S x0 x2 hd
  unfold n_J4_unlinkFirst_b42 at hd
  refine g_aload_n C dJ4_unlinkFirst_42 rfl 0 rfl ?_
  refine g_dup C dJ4_unlinkFirst_43 rfl ?_
  obtain ⟨v1, hv1, hd⟩ := Option.bind_eq_some_iff.mp hd
  refine g_fld C gk_J4 (k := 1) (by decide) q193 (Or.inl rfl) dJ4_unlinkFirst_44 (gI_v hv1) ?_
  refine g_iconst (v := 1) C dJ4_unlinkFirst_47 (by decide) ?_
  refine g_isub C dJ4_unlinkFirst_48 ?_
  obtain ⟨S2, hS2, hd⟩ := Option.bind_eq_some_iff.mp hd
  refine g_put C gk_J4 (k := 1) (by decide) q193 (Or.inl rfl) rfl dJ4_unlinkFirst_49 (gfit_ok (pI_v hS2).1).1 (gfit_ok (pI_v hS2).1).2 (pI_v hS2).2 ?_
  refine g_aload_n C dJ4_unlinkFirst_52 rfl 0 rfl ?_
  refine g_dup C dJ4_unlinkFirst_53 rfl ?_
  obtain ⟨v3, hv3, hd⟩ := Option.bind_eq_some_iff.mp hd
  refine g_fld C gk_J4 (k := 0) (by decide) q175 (Or.inr q171) dJ4_unlinkFirst_54 (gI_v hv3) ?_
  refine g_iconst (v := 1) C dJ4_unlinkFirst_57 (by decide) ?_
  refine g_iadd C dJ4_unlinkFirst_58 ?_
  obtain ⟨S4, hS4, hd⟩ := Option.bind_eq_some_iff.mp hd
  refine g_put C gk_J4 (k := 0) (by decide) q175 (Or.inr q171) rfl dJ4_unlinkFirst_59 (gfit_ok (pI_v hS4).1).1 (gfit_ok (pI_v hS4).1).2 (pI_v hS4).2 ?_
  refine g_aload_n C dJ4_unlinkFirst_62 rfl 1 rfl ?_
  exact g_aret C Q (Or.inl ⟨_, rfl⟩) hd dJ4_unlinkFirst_63
theorem w_J4_unlinkFirst_b0m {K : KT} {r : Option Nat} {S1 : St} (C : GC K RJ4 cJ4_unlinkFirst 4 2 []) (E : EL (kΓ K) (kHI K) (kl K)) (Q : GQ K (some (Jvm.ClassFile.FieldType.object "java/lang/Object")) (.inl (some (vR r))) S1) : ∀ (S : St) (x0 : Option Nat) (x1 : Option Nat), n_J4_unlinkFirst S x0 x1 = some (r, S1) → G K 4 S 0 [(0, vR x0), (1, vR x1)] [] := by
  intro S x0 x1 hd
  unfold n_J4_unlinkFirst at hd
  refine g_aload_n C dJ4_unlinkFirst_0 rfl 1 rfl ?_
  obtain ⟨v1, hv1, hd⟩ := Option.bind_eq_some_iff.mp hd
  refine g_fld C gk_J9 (k := 0) (by decide) q372 (Or.inl rfl) dJ4_unlinkFirst_1 (gR_v hv1) ?_
  refine g_astore_n (L' := [(2, vR v1), (0, vR x0), (1, vR x1)]) C dJ4_unlinkFirst_4 rfl (by decide) rfl ?_
  refine g_aload_n C dJ4_unlinkFirst_5 rfl 2 rfl ?_
  obtain ⟨v2, hv2, hd⟩ := Option.bind_eq_some_iff.mp hd
  refine g_fld C gk_J9 (k := 1) (by decide) q375 (Or.inl rfl) dJ4_unlinkFirst_6 (gR_v hv2) ?_
  refine g_astore_n (L' := [(3, vR v2), (2, vR v1), (0, vR x0), (1, vR x1)]) C dJ4_unlinkFirst_9 rfl (by decide) rfl ?_
  refine g_aload_n C dJ4_unlinkFirst_10 rfl 3 rfl ?_
  refine g_null C dJ4_unlinkFirst_11 ?_
  obtain ⟨S3, hS3, hd⟩ := Option.bind_eq_some_iff.mp hd
  refine g_put C gk_J9 (k := 0) (by decide) q372 (Or.inl rfl) rfl dJ4_unlinkFirst_12 (fit_ref _ (Or.inl ⟨_, rfl⟩)).1 (fit_ref _ (Or.inl ⟨_, rfl⟩)).2 hS3 ?_
  refine g_aload_n C dJ4_unlinkFirst_15 rfl 3 rfl ?_
  refine g_null C dJ4_unlinkFirst_16 ?_
  obtain ⟨S4, hS4, hd⟩ := Option.bind_eq_some_iff.mp hd
  refine g_put C gk_J9 (k := 1) (by decide) q375 (Or.inl rfl) rfl dJ4_unlinkFirst_17 (fit_ref _ (Or.inl ⟨_, rfl⟩)).1 (fit_ref _ (Or.inl ⟨_, rfl⟩)).2 hS4 ?_
  refine g_aload_n C dJ4_unlinkFirst_20 rfl 2 rfl ?_
  refine g_aload_n C dJ4_unlinkFirst_21 rfl 0 rfl ?_
  obtain ⟨S5, hS5, hd⟩ := Option.bind_eq_some_iff.mp hd
  refine g_put C gk_J4 (k := 2) (by decide) q195 (Or.inl rfl) rfl dJ4_unlinkFirst_22 (fit_ref _ (Or.inl ⟨_, rfl⟩)).1 (fit_ref _ (Or.inl ⟨_, rfl⟩)).2 hS5 ?_
  refine g_aload_n C dJ4_unlinkFirst_25 rfl 0 rfl ?_
  refine g_ifnonnull (tgt := 37) C dJ4_unlinkFirst_26 (by decide) hd (fun hd => ?_) (fun hd => ?_)
  · refine g_aload_n C dJ4_unlinkFirst_37 rfl 0 rfl ?_
    refine g_null C dJ4_unlinkFirst_38 ?_
    obtain ⟨S6, hS6, hd⟩ := Option.bind_eq_some_iff.mp hd
    refine g_put C gk_J9 (k := 2) (by decide) q377 (Or.inl rfl) rfl dJ4_unlinkFirst_39 (fit_ref _ (Or.inl ⟨_, rfl⟩)).1 (fit_ref _ (Or.inl ⟨_, rfl⟩)).2 hS6 ?_
    refine g_sub [2, 1] rfl ?_
    exact w_J4_unlinkFirst_b42 C E Q _ _ _ hd
  · refine g_aload_n C dJ4_unlinkFirst_29 rfl 2 rfl ?_
    refine g_null C dJ4_unlinkFirst_30 ?_
    obtain ⟨S7, hS7, hd⟩ := Option.bind_eq_some_iff.mp hd
    refine g_put C gk_J4 (k := 3) (by decide) q196 (Or.inl rfl) rfl dJ4_unlinkFirst_31 (fit_ref _ (Or.inl ⟨_, rfl⟩)).1 (fit_ref _ (Or.inl ⟨_, rfl⟩)).2 hS7 ?_
    refine g_goto (tgt := 42) C dJ4_unlinkFirst_34 (by decide) ?_
    refine g_sub [2, 1] rfl ?_
    exact w_J4_unlinkFirst_b42 C E Q _ _ _ hd
theorem m_J4_unlinkFirst {Γ : GG} {HI : St → Heap → Prop} {l : Launch} (E : EL Γ HI l) {S : St} {a0 : Option Nat} {a1 : Option Nat} {r : Option Nat} {S1 : St} (h : n_J4_unlinkFirst S a0 a1 = some (r, S1)) : MS Γ HI l yJ4_unlinkFirst cJ4_unlinkFirst 4 (some (Jvm.ClassFile.FieldType.object "java/lang/Object")) 2 S [vR a0, vR a1] (.inl (some (vR r))) S1 := by
  refine MS_of E.ntr E.hx (by decide +kernel) rfl (Nat.le_of_ble_eq_true rfl) fun K e1 e2 e3 e4 hnm C Q => ?_
  subst e1; subst e2; subst e3
  exact w_J4_unlinkFirst_b0m C E Q S a0 a1 h

def n_J4_removeFirst (S : St) (x0 : Option Nat) : Option (Option Nat × St) :=
  (gR S x0 9 2).bind fun v1 =>
  if v1 = none then
    none
  else
    gd (grc S x0 9) <|
    bn (n_J4_unlinkFirst S x0 v1) fun v3 S2 =>
    some (v3, S2)
theorem w_J4_removeFirst_b0m {K : KT} {r : Option Nat} {S1 : St} (C : GC K RJ4 cJ4_removeFirst 2 3 []) (E : EL (kΓ K) (kHI K) (kl K)) (Q : GQ K (some (Jvm.ClassFile.FieldType.object "java/lang/Object")) (.inl (some (vR r))) S1) : ∀ (S : St) (x0 : Option Nat), n_J4_removeFirst S x0 = some (r, S1) → G K 2 S 0 [(0, vR x0)] [] := by
  intro S x0 hd
  unfold n_J4_removeFirst at hd
  refine g_aload_n C dJ4_removeFirst_0 rfl 0 rfl ?_
  obtain ⟨v1, hv1, hd⟩ := Option.bind_eq_some_iff.mp hd
  refine g_fld C gk_J4 (k := 2) (by decide) q195 (Or.inl rfl) dJ4_removeFirst_1 (gR_v hv1) ?_
  refine g_astore_n (L' := [(1, vR v1), (0, vR x0)]) C dJ4_removeFirst_4 rfl (by decide) rfl ?_
  refine g_aload_n C dJ4_removeFirst_5 rfl 0 rfl ?_
  refine g_ifnonnull (tgt := 17) C dJ4_removeFirst_6 (by decide) hd (fun hd => ?_) (fun hd => ?_)
  · refine g_aload_n C dJ4_removeFirst_17 rfl 1 rfl ?_
    refine g_aload_n C dJ4_removeFirst_18 rfl 0 rfl ?_
    obtain ⟨hg, hd⟩ := gd_some hd
    obtain ⟨v3, S2, hc, hd⟩ := bn_some hd
    refine g_cV_v (n := 1) C (gk_J4).1 q1593 q1595 qs33 q100 q1596 (by decide +kernel) (by decide) (by decide) dJ4_removeFirst_19 (As := [vR v1]) (rest := []) rfl rfl (Nat.le_of_ble_eq_true rfl) hg (m_J4_unlinkFirst E hc) ?_
    exact g_aret C Q (Or.inl ⟨_, rfl⟩) hd dJ4_removeFirst_22
  · cases hd
theorem m_J4_removeFirst {Γ : GG} {HI : St → Heap → Prop} {l : Launch} (E : EL Γ HI l) {S : St} {a0 : Option Nat} {r : Option Nat} {S1 : St} (h : n_J4_removeFirst S a0 = some (r, S1)) : MS Γ HI l yJ4_removeFirst cJ4_removeFirst 2 (some (Jvm.ClassFile.FieldType.object "java/lang/Object")) 3 S [vR a0] (.inl (some (vR r))) S1 := by
  refine MS_of E.ntr E.hx (by decide +kernel) rfl (Nat.le_of_ble_eq_true rfl) fun K e1 e2 e3 e4 hnm C Q => ?_
  subst e1; subst e2; subst e3
  exact w_J4_removeFirst_b0m C E Q S a0 h

def n_J4_unlink_b64 (S : St) (x0 : Option Nat) (x1 : Option Nat) (x2 : Option Nat) : Option (Option Nat × St) :=
  (pR S x1 11 0 none).bind fun S1 =>
  (gI S1 x0 9 1).bind fun v2 =>
  (pI .int S1 x0 9 1 (v2 - (1 : Int32))).bind fun S3 =>
  (gI S3 x0 9 0).bind fun v4 =>
  (pI .int S3 x0 9 0 (v4 + (1 : Int32))).bind fun S5 =>
  some (x2, S5)
def n_J4_unlink_b40 (S : St) (x0 : Option Nat) (x1 : Option Nat) (x2 : Option Nat) (x3 : Option Nat) (x4 : Option Nat) : Option (Option Nat × St) :=
  if x3 = none then
    (pR S x0 9 3 x4).bind fun S3 =>
    n_J4_unlink_b64 S3 x0 x1 x2
  else
    (pR S x3 11 2 x4).bind fun S1 =>
    (pR S1 x1 11 1 none).bind fun S2 =>
    n_J4_unlink_b64 S2 x0 x1 x2
def n_J4_unlink (S : St) (x0 : Option Nat) (x1 : Option Nat) : Option (Option Nat × St) :=
  (gR S x1 11 0).bind fun v1 =>
  (gR S x1 11 1).bind fun v2 =>
  (gR S x1 11 2).bind fun v3 =>
  if v3 = none then
    (pR S x0 9 2 v2).bind fun S6 =>
    n_J4_unlink_b40 S6 x0 x1 v1 v2 v3
  else
    (pR S v3 11 1 v2).bind fun S4 =>
    (pR S4 x1 11 2 none).bind fun S5 =>
    n_J4_unlink_b40 S5 x0 x1 v1 v2 v3
theorem w_J4_unlink_b64 {K : KT} {r : Option Nat} {S1 : St} (C : GC K RJ4 cJ4_unlink 5 2 []) (E : EL (kΓ K) (kHI K) (kl K)) (Q : GQ K (some (Jvm.ClassFile.FieldType.object "java/lang/Object")) (.inl (some (vR r))) S1) : ∀ (S : St) (x0 : Option Nat) (x1 : Option Nat) (x2 : Option Nat), n_J4_unlink_b64 S x0 x1 x2 = some (r, S1) → G K 5 S 64 [(0, vR x0), (1, vR x1), (2, vR x2)] [] := by
  intro S x0 x1 x2 hd
  unfold n_J4_unlink_b64 at hd
  refine g_aload_n C dJ4_unlink_64 rfl 1 rfl ?_
  refine g_null C dJ4_unlink_65 ?_
  obtain ⟨S1, hS1, hd⟩ := Option.bind_eq_some_iff.mp hd
  refine g_put C gk_J9 (k := 0) (by decide) q372 (Or.inl rfl) rfl dJ4_unlink_66 (fit_ref _ (Or.inl ⟨_, rfl⟩)).1 (fit_ref _ (Or.inl ⟨_, rfl⟩)).2 hS1 ?_
  refine g_aload_n C dJ4_unlink_69 rfl 0 rfl ?_
  refine g_dup C dJ4_unlink_70 rfl ?_
  obtain ⟨v2, hv2, hd⟩ := Option.bind_eq_some_iff.mp hd
  refine g_fld C gk_J4 (k := 1) (by decide) q193 (Or.inl rfl) dJ4_unlink_71 (gI_v hv2) ?_
  refine g_iconst (v := 1) C dJ4_unlink_74 (by decide) ?_
  refine g_isub C dJ4_unlink_75 ?_
  obtain ⟨S3, hS3, hd⟩ := Option.bind_eq_some_iff.mp hd
  refine g_put C gk_J4 (k := 1) (by decide) q193 (Or.inl rfl) rfl dJ4_unlink_76 (gfit_ok (pI_v hS3).1).1 (gfit_ok (pI_v hS3).1).2 (pI_v hS3).2 ?_
  refine g_aload_n C dJ4_unlink_79 rfl 0 rfl ?_
  refine g_dup C dJ4_unlink_80 rfl ?_
  obtain ⟨v4, hv4, hd⟩ := Option.bind_eq_some_iff.mp hd
  refine g_fld C gk_J4 (k := 0) (by decide) q175 (Or.inr q171) dJ4_unlink_81 (gI_v hv4) ?_
  refine g_iconst (v := 1) C dJ4_unlink_84 (by decide) ?_
  refine g_iadd C dJ4_unlink_85 ?_
  obtain ⟨S5, hS5, hd⟩ := Option.bind_eq_some_iff.mp hd
  refine g_put C gk_J4 (k := 0) (by decide) q175 (Or.inr q171) rfl dJ4_unlink_86 (gfit_ok (pI_v hS5).1).1 (gfit_ok (pI_v hS5).1).2 (pI_v hS5).2 ?_
  refine g_aload_n C dJ4_unlink_89 rfl 2 rfl ?_
  exact g_aret C Q (Or.inl ⟨_, rfl⟩) hd dJ4_unlink_90
theorem w_J4_unlink_b40 {K : KT} {r : Option Nat} {S1 : St} (C : GC K RJ4 cJ4_unlink 5 2 []) (E : EL (kΓ K) (kHI K) (kl K)) (Q : GQ K (some (Jvm.ClassFile.FieldType.object "java/lang/Object")) (.inl (some (vR r))) S1) : ∀ (S : St) (x0 : Option Nat) (x1 : Option Nat) (x2 : Option Nat) (x3 : Option Nat) (x4 : Option Nat), n_J4_unlink_b40 S x0 x1 x2 x3 x4 = some (r, S1) → G K 5 S 40 [(0, vR x0), (1, vR x1), (2, vR x2), (3, vR x3), (4, vR x4)] [] := by
  intro S x0 x1 x2 x3 x4 hd
  unfold n_J4_unlink_b40 at hd
  refine g_aload_n C dJ4_unlink_40 rfl 3 rfl ?_
  refine g_ifnonnull (tgt := 53) C dJ4_unlink_41 (by decide) hd (fun hd => ?_) (fun hd => ?_)
  · refine g_aload_n C dJ4_unlink_53 rfl 3 rfl ?_
    refine g_aload C dJ4_unlink_54 4 rfl ?_
    obtain ⟨S1, hS1, hd⟩ := Option.bind_eq_some_iff.mp hd
    refine g_put C gk_J9 (k := 2) (by decide) q377 (Or.inl rfl) rfl dJ4_unlink_56 (fit_ref _ (Or.inl ⟨_, rfl⟩)).1 (fit_ref _ (Or.inl ⟨_, rfl⟩)).2 hS1 ?_
    refine g_aload_n C dJ4_unlink_59 rfl 1 rfl ?_
    refine g_null C dJ4_unlink_60 ?_
    obtain ⟨S2, hS2, hd⟩ := Option.bind_eq_some_iff.mp hd
    refine g_put C gk_J9 (k := 1) (by decide) q375 (Or.inl rfl) rfl dJ4_unlink_61 (fit_ref _ (Or.inl ⟨_, rfl⟩)).1 (fit_ref _ (Or.inl ⟨_, rfl⟩)).2 hS2 ?_
    refine g_sub [0, 1, 2] rfl ?_
    exact w_J4_unlink_b64 C E Q _ _ _ _ hd
  · refine g_aload_n C dJ4_unlink_44 rfl 0 rfl ?_
    refine g_aload C dJ4_unlink_45 4 rfl ?_
    obtain ⟨S3, hS3, hd⟩ := Option.bind_eq_some_iff.mp hd
    refine g_put C gk_J4 (k := 3) (by decide) q196 (Or.inl rfl) rfl dJ4_unlink_47 (fit_ref _ (Or.inl ⟨_, rfl⟩)).1 (fit_ref _ (Or.inl ⟨_, rfl⟩)).2 hS3 ?_
    refine g_goto (tgt := 64) C dJ4_unlink_50 (by decide) ?_
    refine g_sub [0, 1, 2] rfl ?_
    exact w_J4_unlink_b64 C E Q _ _ _ _ hd
theorem w_J4_unlink_b0m {K : KT} {r : Option Nat} {S1 : St} (C : GC K RJ4 cJ4_unlink 5 2 []) (E : EL (kΓ K) (kHI K) (kl K)) (Q : GQ K (some (Jvm.ClassFile.FieldType.object "java/lang/Object")) (.inl (some (vR r))) S1) : ∀ (S : St) (x0 : Option Nat) (x1 : Option Nat), n_J4_unlink S x0 x1 = some (r, S1) → G K 5 S 0 [(0, vR x0), (1, vR x1)] [] := by
  intro S x0 x1 hd
  unfold n_J4_unlink at hd
  refine g_aload_n C dJ4_unlink_0 rfl 1 rfl ?_
  obtain ⟨v1, hv1, hd⟩ := Option.bind_eq_some_iff.mp hd
  refine g_fld C gk_J9 (k := 0) (by decide) q372 (Or.inl rfl) dJ4_unlink_1 (gR_v hv1) ?_
  refine g_astore_n (L' := [(2, vR v1), (0, vR x0), (1, vR x1)]) C dJ4_unlink_4 rfl (by decide) rfl ?_
  refine g_aload_n C dJ4_unlink_5 rfl 2 rfl ?_
  obtain ⟨v2, hv2, hd⟩ := Option.bind_eq_some_iff.mp hd
  refine g_fld C gk_J9 (k := 1) (by decide) q375 (Or.inl rfl) dJ4_unlink_6 (gR_v hv2) ?_
  refine g_astore_n (L' := [(3, vR v2), (2, vR v1), (0, vR x0), (1, vR x1)]) C dJ4_unlink_9 rfl (by decide) rfl ?_
  refine g_aload_n C dJ4_unlink_10 rfl 3 rfl ?_
  obtain ⟨v3, hv3, hd⟩ := Option.bind_eq_some_iff.mp hd
  refine g_fld C gk_J9 (k := 2) (by decide) q377 (Or.inl rfl) dJ4_unlink_11 (gR_v hv3) ?_
  refine g_astore (L' := [(4, vR v3), (3, vR v2), (2, vR v1), (0, vR x0), (1, vR x1)]) C dJ4_unlink_14 (by decide) rfl ?_
  refine g_aload C dJ4_unlink_16 0 rfl ?_
  refine g_ifnonnull (tgt := 29) C dJ4_unlink_18 (by decide) hd (fun hd => ?_) (fun hd => ?_)
  · refine g_aload C dJ4_unlink_29 0 rfl ?_
    refine g_aload_n C dJ4_unlink_31 rfl 1 rfl ?_
    obtain ⟨S4, hS4, hd⟩ := Option.bind_eq_some_iff.mp hd
    refine g_put C gk_J9 (k := 1) (by decide) q375 (Or.inl rfl) rfl dJ4_unlink_32 (fit_ref _ (Or.inl ⟨_, rfl⟩)).1 (fit_ref _ (Or.inl ⟨_, rfl⟩)).2 hS4 ?_
    refine g_aload_n C dJ4_unlink_35 rfl 4 rfl ?_
    refine g_null C dJ4_unlink_36 ?_
    obtain ⟨S5, hS5, hd⟩ := Option.bind_eq_some_iff.mp hd
    refine g_put C gk_J9 (k := 2) (by decide) q377 (Or.inl rfl) rfl dJ4_unlink_37 (fit_ref _ (Or.inl ⟨_, rfl⟩)).1 (fit_ref _ (Or.inl ⟨_, rfl⟩)).2 hS5 ?_
    refine g_sub [3, 4, 2, 1, 0] rfl ?_
    exact w_J4_unlink_b40 C E Q _ _ _ _ _ _ hd
  · refine g_aload_n C dJ4_unlink_21 rfl 3 rfl ?_
    refine g_aload_n C dJ4_unlink_22 rfl 1 rfl ?_
    obtain ⟨S6, hS6, hd⟩ := Option.bind_eq_some_iff.mp hd
    refine g_put C gk_J4 (k := 2) (by decide) q195 (Or.inl rfl) rfl dJ4_unlink_23 (fit_ref _ (Or.inl ⟨_, rfl⟩)).1 (fit_ref _ (Or.inl ⟨_, rfl⟩)).2 hS6 ?_
    refine g_goto (tgt := 40) C dJ4_unlink_26 (by decide) ?_
    refine g_sub [3, 4, 2, 1, 0] rfl ?_
    exact w_J4_unlink_b40 C E Q _ _ _ _ _ _ hd
theorem m_J4_unlink {Γ : GG} {HI : St → Heap → Prop} {l : Launch} (E : EL Γ HI l) {S : St} {a0 : Option Nat} {a1 : Option Nat} {r : Option Nat} {S1 : St} (h : n_J4_unlink S a0 a1 = some (r, S1)) : MS Γ HI l yJ4_unlink cJ4_unlink 5 (some (Jvm.ClassFile.FieldType.object "java/lang/Object")) 2 S [vR a0, vR a1] (.inl (some (vR r))) S1 := by
  refine MS_of E.ntr E.hx (by decide +kernel) rfl (Nat.le_of_ble_eq_true rfl) fun K e1 e2 e3 e4 hnm C Q => ?_
  subst e1; subst e2; subst e3
  exact w_J4_unlink_b0m C E Q S a0 a1 h

def n_J4_remove_2_b9 : Nat → St → Option Nat → Option Nat → Option (Int32 × St)
  | 0 => fun _ _ _ => none
  | n + 1 => fun S x0 x2 =>
    if x2 = none then
      rtI id (Jvm.ClassFile.FieldType.boolean) (0 : Int32) S
    else
      (gR S x2 11 0).bind fun v1 =>
      if v1 = none then
        gd (grc S x0 9) <|
        bn (n_J4_unlink S x0 x2) fun v4 S3 =>
        rtI id (Jvm.ClassFile.FieldType.boolean) (1 : Int32) S3
      else
        (gR S x2 11 1).bind fun v2 =>
        (n_J4_remove_2_b9 n) S x0 v2
def n_J4_remove_2_b44 : Nat → St → Option Nat → Option Nat → Option Nat → Option (Int32 × St)
  | 0 => fun _ _ _ _ => none
  | n + 1 => fun S x0 x1 x2 =>
    if x2 = none then
      rtI id (Jvm.ClassFile.FieldType.boolean) (0 : Int32) S
    else
      (gR S x2 11 0).bind fun v1 =>
      gd (grc S x1 3) <|
      bn (n_J35_equals S x1 v1) fun v3 S2 =>
      if v3 = 0 then
        (gR S2 x2 11 1).bind fun v4 =>
        (n_J4_remove_2_b44 n) S2 x0 x1 v4
      else
        gd (grc S2 x0 9) <|
        bn (n_J4_unlink S2 x0 x2) fun v6 S5 =>
        rtI id (Jvm.ClassFile.FieldType.boolean) (1 : Int32) S5
def n_J4_remove_2 (S : St) (x0 : Option Nat) (x1 : Option Nat) : Option (Int32 × St) :=
  if x1 = none then
    (gR S x0 9 2).bind fun v2 =>
    n_J4_remove_2_b9 FU S x0 v2
  else
    (gR S x0 9 2).bind fun v1 =>
    n_J4_remove_2_b44 FU S x0 x1 v1
theorem w_J4_remove_2_b9 {K : KT} {r : Int32} {S1 : St} (C : GC K RJ4 cJ4_remove_2 3 3 []) (E : EL (kΓ K) (kHI K) (kl K)) (Q : GQ K (some (Jvm.ClassFile.FieldType.boolean)) (.inl (some (vI r))) S1) : ∀ (n : Nat) (S : St) (x0 : Option Nat) (x2 : Option Nat), n_J4_remove_2_b9 n S x0 x2 = some (r, S1) → G K 3 S 9 [(0, vR x0), (2, vR x2)] [] := by
  intro n
  induction n with
  | zero => intro S x0 x2 hd; cases hd
  | succ n ih =>
    intro S x0 x2 hd
    unfold n_J4_remove_2_b9 at hd
    refine g_aload_n C dJ4_remove_2_9 rfl 1 rfl ?_
    refine g_ifnull (tgt := 36) C dJ4_remove_2_10 (by decide) hd (fun hd => ?_) (fun hd => ?_)
    · refine g_goto (tgt := 75) C dJ4_remove_2_36 (by decide) ?_
      refine g_iconst (v := 0) C dJ4_remove_2_75 (by decide) ?_
      exact g_iret C Q hd dJ4_remove_2_76
    · refine g_aload_n C dJ4_remove_2_13 rfl 1 rfl ?_
      obtain ⟨v1, hv1, hd⟩ := Option.bind_eq_some_iff.mp hd
      refine g_fld C gk_J9 (k := 0) (by decide) q372 (Or.inl rfl) dJ4_remove_2_14 (gR_v hv1) ?_
      refine g_ifnonnull (tgt := 28) C dJ4_remove_2_17 (by decide) hd (fun hd => ?_) (fun hd => ?_)
      · refine g_aload_n C dJ4_remove_2_28 rfl 1 rfl ?_
        obtain ⟨v2, hv2, hd⟩ := Option.bind_eq_some_iff.mp hd
        refine g_fld C gk_J9 (k := 1) (by decide) q375 (Or.inl rfl) dJ4_remove_2_29 (gR_v hv2) ?_
        refine g_astore_n (L' := [(2, vR v2), (0, vR x0)]) C dJ4_remove_2_32 rfl (by decide) rfl ?_
        refine g_goto (tgt := 9) C dJ4_remove_2_33 (by decide) ?_
        refine g_sub [1, 0] rfl ?_
        exact ih _ _ _ hd
      · refine g_aload_n C dJ4_remove_2_20 rfl 0 rfl ?_
        refine g_aload_n C dJ4_remove_2_21 rfl 1 rfl ?_
        obtain ⟨hg, hd⟩ := gd_some hd
        obtain ⟨v4, S3, hc, hd⟩ := bn_some hd
        refine g_cV_v (n := 1) C (gk_J4).1 q1323 q1324 q1325 q100 q1326 (by decide +kernel) (by decide) (by decide) dJ4_remove_2_22 (As := [vR x2]) (rest := []) rfl rfl (Nat.le_of_ble_eq_true rfl) hg (m_J4_unlink E hc) ?_
        refine g_pop C dJ4_remove_2_25 rfl ?_
        refine g_iconst (v := 1) C dJ4_remove_2_26 (by decide) ?_
        exact g_iret C Q hd dJ4_remove_2_27
theorem w_J4_remove_2_b44 {K : KT} {r : Int32} {S1 : St} (C : GC K RJ4 cJ4_remove_2 3 3 []) (E : EL (kΓ K) (kHI K) (kl K)) (Q : GQ K (some (Jvm.ClassFile.FieldType.boolean)) (.inl (some (vI r))) S1) : ∀ (n : Nat) (S : St) (x0 : Option Nat) (x1 : Option Nat) (x2 : Option Nat), n_J4_remove_2_b44 n S x0 x1 x2 = some (r, S1) → G K 3 S 44 [(0, vR x0), (1, vR x1), (2, vR x2)] [] := by
  intro n
  induction n with
  | zero => intro S x0 x1 x2 hd; cases hd
  | succ n ih =>
    intro S x0 x1 x2 hd
    unfold n_J4_remove_2_b44 at hd
    refine g_aload_n C dJ4_remove_2_44 rfl 2 rfl ?_
    refine g_ifnull (tgt := 75) C dJ4_remove_2_45 (by decide) hd (fun hd => ?_) (fun hd => ?_)
    · refine g_iconst (v := 0) C dJ4_remove_2_75 (by decide) ?_
      exact g_iret C Q hd dJ4_remove_2_76
    · refine g_aload_n C dJ4_remove_2_48 rfl 1 rfl ?_
      refine g_aload_n C dJ4_remove_2_49 rfl 2 rfl ?_
      obtain ⟨v1, hv1, hd⟩ := Option.bind_eq_some_iff.mp hd
      refine g_fld C gk_J9 (k := 0) (by decide) q372 (Or.inl rfl) dJ4_remove_2_50 (gR_v hv1) ?_
      obtain ⟨hg, hd⟩ := gd_some hd
      obtain ⟨v3, S2, hc, hd⟩ := bn_some hd
      refine g_cU_v (n := 1) C (gk_X5).1 q1602 q1604 q1603 q1606 q2423 q1636 rfl (by decide +kernel) (by decide) (by decide) dJ4_remove_2_53 (As := [vR v1]) (rest := []) rfl rfl (Nat.le_of_ble_eq_true rfl) hg (m_J35_equals E hc) ?_
      refine g_if_eq (tgt := 67) C dJ4_remove_2_56 (by decide) hd (fun hd => ?_) (fun hd => ?_)
      · refine g_aload_n C dJ4_remove_2_67 rfl 2 rfl ?_
        obtain ⟨v4, hv4, hd⟩ := Option.bind_eq_some_iff.mp hd
        refine g_fld C gk_J9 (k := 1) (by decide) q375 (Or.inl rfl) dJ4_remove_2_68 (gR_v hv4) ?_
        refine g_astore_n (L' := [(2, vR v4), (0, vR x0), (1, vR x1)]) C dJ4_remove_2_71 rfl (by decide) rfl ?_
        refine g_goto (tgt := 44) C dJ4_remove_2_72 (by decide) ?_
        refine g_sub [1, 2, 0] rfl ?_
        exact ih _ _ _ _ hd
      · refine g_aload_n C dJ4_remove_2_59 rfl 0 rfl ?_
        refine g_aload_n C dJ4_remove_2_60 rfl 2 rfl ?_
        obtain ⟨hg, hd⟩ := gd_some hd
        obtain ⟨v6, S5, hc, hd⟩ := bn_some hd
        refine g_cV_v (n := 1) C (gk_J4).1 q1323 q1324 q1325 q100 q1326 (by decide +kernel) (by decide) (by decide) dJ4_remove_2_61 (As := [vR x2]) (rest := []) rfl rfl (Nat.le_of_ble_eq_true rfl) hg (m_J4_unlink E hc) ?_
        refine g_pop C dJ4_remove_2_64 rfl ?_
        refine g_iconst (v := 1) C dJ4_remove_2_65 (by decide) ?_
        exact g_iret C Q hd dJ4_remove_2_66
theorem w_J4_remove_2_b0m {K : KT} {r : Int32} {S1 : St} (C : GC K RJ4 cJ4_remove_2 3 3 []) (E : EL (kΓ K) (kHI K) (kl K)) (Q : GQ K (some (Jvm.ClassFile.FieldType.boolean)) (.inl (some (vI r))) S1) : ∀ (S : St) (x0 : Option Nat) (x1 : Option Nat), n_J4_remove_2 S x0 x1 = some (r, S1) → G K 3 S 0 [(0, vR x0), (1, vR x1)] [] := by
  intro S x0 x1 hd
  unfold n_J4_remove_2 at hd
  refine g_aload_n C dJ4_remove_2_0 rfl 1 rfl ?_
  refine g_ifnonnull (tgt := 39) C dJ4_remove_2_1 (by decide) hd (fun hd => ?_) (fun hd => ?_)
  · refine g_aload_n C dJ4_remove_2_39 rfl 0 rfl ?_
    obtain ⟨v1, hv1, hd⟩ := Option.bind_eq_some_iff.mp hd
    refine g_fld C gk_J4 (k := 2) (by decide) q195 (Or.inl rfl) dJ4_remove_2_40 (gR_v hv1) ?_
    refine g_astore_n (L' := [(2, vR v1), (0, vR x0), (1, vR x1)]) C dJ4_remove_2_43 rfl (by decide) rfl ?_
    refine g_sub [1, 2, 0] rfl ?_
    exact w_J4_remove_2_b44 C E Q FU _ _ _ _ hd
  · refine g_aload_n C dJ4_remove_2_4 rfl 0 rfl ?_
    obtain ⟨v2, hv2, hd⟩ := Option.bind_eq_some_iff.mp hd
    refine g_fld C gk_J4 (k := 2) (by decide) q195 (Or.inl rfl) dJ4_remove_2_5 (gR_v hv2) ?_
    refine g_astore_n (L' := [(2, vR v2), (0, vR x0), (1, vR x1)]) C dJ4_remove_2_8 rfl (by decide) rfl ?_
    refine g_sub [1, 0] rfl ?_
    exact w_J4_remove_2_b9 C E Q FU _ _ _ hd
theorem m_J4_remove_2 {Γ : GG} {HI : St → Heap → Prop} {l : Launch} (E : EL Γ HI l) {S : St} {a0 : Option Nat} {a1 : Option Nat} {r : Int32} {S1 : St} (h : n_J4_remove_2 S a0 a1 = some (r, S1)) : MS Γ HI l yJ4_remove_2 cJ4_remove_2 3 (some (Jvm.ClassFile.FieldType.boolean)) 3 S [vR a0, vR a1] (.inl (some (vI r))) S1 := by
  refine MS_of E.ntr E.hx (by decide +kernel) rfl (Nat.le_of_ble_eq_true rfl) fun K e1 e2 e3 e4 hnm C Q => ?_
  subst e1; subst e2; subst e3
  exact w_J4_remove_2_b0m C E Q S a0 a1 h

def n_J4_isPositionIndex (S : St) (x0 : Option Nat) (x1 : Int32) : Option (Int32 × St) :=
  if x1 < 0 then
    rtI id (Jvm.ClassFile.FieldType.boolean) (0 : Int32) S
  else
    (gI S x0 9 1).bind fun v1 =>
    if v1 < x1 then
      rtI id (Jvm.ClassFile.FieldType.boolean) (0 : Int32) S
    else
      rtI id (Jvm.ClassFile.FieldType.boolean) (1 : Int32) S
theorem w_J4_isPositionIndex_b0m {K : KT} {r : Int32} {S1 : St} (C : GC K RJ4 cJ4_isPositionIndex 2 2 []) (E : EL (kΓ K) (kHI K) (kl K)) (Q : GQ K (some (Jvm.ClassFile.FieldType.boolean)) (.inl (some (vI r))) S1) : ∀ (S : St) (x0 : Option Nat) (x1 : Int32), n_J4_isPositionIndex S x0 x1 = some (r, S1) → G K 2 S 0 [(0, vR x0), (1, vI x1)] [] := by
  intro S x0 x1 hd
  unfold n_J4_isPositionIndex at hd
  refine g_iload_n C dJ4_isPositionIndex_0 rfl 1 rfl ?_
  refine g_if_lt (tgt := 16) C dJ4_isPositionIndex_1 (by decide) hd (fun hd => ?_) (fun hd => ?_)
  · refine g_iconst (v := 0) C dJ4_isPositionIndex_16 (by decide) ?_
    exact g_iret C Q hd dJ4_isPositionIndex_17
  · refine g_iload_n C dJ4_isPositionIndex_4 rfl 1 rfl ?_
    refine g_aload_n C dJ4_isPositionIndex_5 rfl 0 rfl ?_
    obtain ⟨v1, hv1, hd⟩ := Option.bind_eq_some_iff.mp hd
    refine g_fld C gk_J4 (k := 1) (by decide) q193 (Or.inl rfl) dJ4_isPositionIndex_6 (gI_v hv1) ?_
    refine g_icmp_gt (tgt := 16) C dJ4_isPositionIndex_9 (by decide) hd (fun hd => ?_) (fun hd => ?_)
    · refine g_iconst (v := 0) C dJ4_isPositionIndex_16 (by decide) ?_
      exact g_iret C Q hd dJ4_isPositionIndex_17
    · refine g_iconst (v := 1) C dJ4_isPositionIndex_12 (by decide) ?_
      refine g_goto (tgt := 17) C dJ4_isPositionIndex_13 (by decide) ?_
      exact g_iret C Q hd dJ4_isPositionIndex_17
theorem m_J4_isPositionIndex {Γ : GG} {HI : St → Heap → Prop} {l : Launch} (E : EL Γ HI l) {S : St} {a0 : Option Nat} {a1 : Int32} {r : Int32} {S1 : St} (h : n_J4_isPositionIndex S a0 a1 = some (r, S1)) : MS Γ HI l yJ4_isPositionIndex cJ4_isPositionIndex 2 (some (Jvm.ClassFile.FieldType.boolean)) 2 S [vR a0, vI a1] (.inl (some (vI r))) S1 := by
  refine MS_of E.ntr E.hx (by decide +kernel) rfl (Nat.le_of_ble_eq_true rfl) fun K e1 e2 e3 e4 hnm C Q => ?_
  subst e1; subst e2; subst e3
  exact w_J4_isPositionIndex_b0m C E Q S a0 a1 h

def n_J4_checkPositionIndex (S : St) (x0 : Option Nat) (x1 : Int32) : Option (Unit × St) :=
  gd (grc S x0 9) <|
  bn (n_J4_isPositionIndex S x0 x1) fun v2 S1 =>
  if v2 = 0 then
    none
  else
    some ((), S1)
theorem w_J4_checkPositionIndex_b0m {K : KT} {r : Unit} {S1 : St} (C : GC K RJ4 cJ4_checkPositionIndex 2 3 []) (E : EL (kΓ K) (kHI K) (kl K)) (Q : GQ K none (.inl none) S1) : ∀ (S : St) (x0 : Option Nat) (x1 : Int32), n_J4_checkPositionIndex S x0 x1 = some (r, S1) → G K 2 S 0 [(0, vR x0), (1, vI x1)] [] := by
  intro S x0 x1 hd
  unfold n_J4_checkPositionIndex at hd
  refine g_aload_n C dJ4_checkPositionIndex_0 rfl 0 rfl ?_
  refine g_iload_n C dJ4_checkPositionIndex_1 rfl 1 rfl ?_
  obtain ⟨hg, hd⟩ := gd_some hd
  obtain ⟨v2, S1, hc, hd⟩ := bn_some hd
  refine g_cV_v (n := 1) C (gk_J4).1 q896 q898 qs12 q100 q899 (by decide +kernel) (by decide) (by decide) dJ4_checkPositionIndex_2 (As := [vI x1]) (rest := []) rfl rfl (Nat.le_of_ble_eq_true rfl) hg (m_J4_isPositionIndex E hc) ?_
  refine g_if_ne (tgt := 21) C dJ4_checkPositionIndex_5 (by decide) hd (fun hd => ?_) (fun hd => ?_)
  · exact g_vret C Q hd dJ4_checkPositionIndex_21
  · cases hd
theorem m_J4_checkPositionIndex {Γ : GG} {HI : St → Heap → Prop} {l : Launch} (E : EL Γ HI l) {S : St} {a0 : Option Nat} {a1 : Int32} {r : Unit} {S1 : St} (h : n_J4_checkPositionIndex S a0 a1 = some (r, S1)) : MS Γ HI l yJ4_checkPositionIndex cJ4_checkPositionIndex 2 none 3 S [vR a0, vI a1] (.inl none) S1 := by
  refine MS_of E.ntr E.hx (by decide +kernel) rfl (Nat.le_of_ble_eq_true rfl) fun K e1 e2 e3 e4 hnm C Q => ?_
  subst e1; subst e2; subst e3
  exact w_J4_checkPositionIndex_b0m C E Q S a0 a1 h

def n_J4_node_b17 : Nat → St → Int32 → Option Nat → Int32 → Option (Option Nat × St)
  | 0 => fun _ _ _ _ => none
  | n + 1 => fun S x1 x2 x3 =>
    if x1 ≤ x3 then
      some (x2, S)
    else
      (gR S x2 11 1).bind fun v1 =>
      (n_J4_node_b17 n) S x1 v1 (x3 + 1)
def n_J4_node_b47 : Nat → St → Int32 → Option Nat → Int32 → Option (Option Nat × St)
  | 0 => fun _ _ _ _ => none
  | n + 1 => fun S x1 x2 x3 =>
    if x3 ≤ x1 then
      some (x2, S)
    else
      (gR S x2 11 2).bind fun v1 =>
      (n_J4_node_b47 n) S x1 v1 (x3 + (-1))
def n_J4_node (S : St) (x0 : Option Nat) (x1 : Int32) : Option (Option Nat × St) :=
  (gI S x0 9 1).bind fun v1 =>
  if (v1 >>> ((1 : Int32) &&& 31)) ≤ x1 then
    (gR S x0 9 3).bind fun v2 =>
    (gI S x0 9 1).bind fun v3 =>
    n_J4_node_b47 FU S x1 v2 (v3 - (1 : Int32))
  else
    (gR S x0 9 2).bind fun v4 =>
    n_J4_node_b17 FU S x1 v4 (0 : Int32)
theorem w_J4_node_b17 {K : KT} {r : Option Nat} {S1 : St} (C : GC K RJ4 cJ4_node 4 2 []) (E : EL (kΓ K) (kHI K) (kl K)) (Q : GQ K (some (Jvm.ClassFile.FieldType.object "java/util/LinkedList$Node")) (.inl (some (vR r))) S1) : ∀ (n : Nat) (S : St) (x1 : Int32) (x2 : Option Nat) (x3 : Int32), n_J4_node_b17 n S x1 x2 x3 = some (r, S1) → G K 4 S 17 [(1, vI x1), (2, vR x2), (3, vI x3)] [] := by
  intro n
  induction n with
  | zero => intro S x1 x2 x3 hd; cases hd
  | succ n ih =>
    intro S x1 x2 x3 hd
    unfold n_J4_node_b17 at hd
    refine g_iload_n C dJ4_node_17 rfl 2 rfl ?_
    refine g_iload_n C dJ4_node_18 rfl 0 rfl ?_
    refine g_icmp_ge (tgt := 33) C dJ4_node_19 (by decide) hd (fun hd => ?_) (fun hd => ?_)
    · refine g_aload_n C dJ4_node_33 rfl 1 rfl ?_
      exact g_aret C Q (Or.inl ⟨_, rfl⟩) hd dJ4_node_34
    · refine g_aload_n C dJ4_node_22 rfl 1 rfl ?_
      obtain ⟨v1, hv1, hd⟩ := Option.bind_eq_some_iff.mp hd
      refine g_fld C gk_J9 (k := 1) (by decide) q375 (Or.inl rfl) dJ4_node_23 (gR_v hv1) ?_
      refine g_astore_n (L' := [(2, vR v1), (1, vI x1), (3, vI x3)]) C dJ4_node_26 rfl (by decide) rfl ?_
      refine g_iinc (v := x3 + 1) (L' := [(3, vI (x3 + 1)), (2, vR v1), (1, vI x1)]) C dJ4_node_27 2 rfl rfl (by decide) rfl ?_
      refine g_goto (tgt := 17) C dJ4_node_30 (by decide) ?_
      refine g_sub [2, 1, 0] rfl ?_
      exact ih _ _ _ _ hd
theorem w_J4_node_b47 {K : KT} {r : Option Nat} {S1 : St} (C : GC K RJ4 cJ4_node 4 2 []) (E : EL (kΓ K) (kHI K) (kl K)) (Q : GQ K (some (Jvm.ClassFile.FieldType.object "java/util/LinkedList$Node")) (.inl (some (vR r))) S1) : ∀ (n : Nat) (S : St) (x1 : Int32) (x2 : Option Nat) (x3 : Int32), n_J4_node_b47 n S x1 x2 x3 = some (r, S1) → G K 4 S 47 [(1, vI x1), (2, vR x2), (3, vI x3)] [] := by
  intro n
  induction n with
  | zero => intro S x1 x2 x3 hd; cases hd
  | succ n ih =>
    intro S x1 x2 x3 hd
    unfold n_J4_node_b47 at hd
    refine g_iload_n C dJ4_node_47 rfl 2 rfl ?_
    refine g_iload_n C dJ4_node_48 rfl 0 rfl ?_
    refine g_icmp_le (tgt := 63) C dJ4_node_49 (by decide) hd (fun hd => ?_) (fun hd => ?_)
    · refine g_aload_n C dJ4_node_63 rfl 1 rfl ?_
      exact g_aret C Q (Or.inl ⟨_, rfl⟩) hd dJ4_node_64
    · refine g_aload_n C dJ4_node_52 rfl 1 rfl ?_
      obtain ⟨v1, hv1, hd⟩ := Option.bind_eq_some_iff.mp hd
      refine g_fld C gk_J9 (k := 2) (by decide) q377 (Or.inl rfl) dJ4_node_53 (gR_v hv1) ?_
      refine g_astore_n (L' := [(2, vR v1), (1, vI x1), (3, vI x3)]) C dJ4_node_56 rfl (by decide) rfl ?_
      refine g_iinc (v := x3 + (-1)) (L' := [(3, vI (x3 + (-1))), (2, vR v1), (1, vI x1)]) C dJ4_node_57 2 rfl rfl (by decide) rfl ?_
      refine g_goto (tgt := 47) C dJ4_node_60 (by decide) ?_
      refine g_sub [2, 1, 0] rfl ?_
      exact ih _ _ _ _ hd
theorem w_J4_node_b0m {K : KT} {r : Option Nat} {S1 : St} (C : GC K RJ4 cJ4_node 4 2 []) (E : EL (kΓ K) (kHI K) (kl K)) (Q : GQ K (some (Jvm.ClassFile.FieldType.object "java/util/LinkedList$Node")) (.inl (some (vR r))) S1) : ∀ (S : St) (x0 : Option Nat) (x1 : Int32), n_J4_node S x0 x1 = some (r, S1) → G K 4 S 0 [(0, vR x0), (1, vI x1)] [] := by
  intro S x0 x1 hd
  unfold n_J4_node at hd
  refine g_iload_n C dJ4_node_0 rfl 1 rfl ?_
  refine g_aload_n C dJ4_node_1 rfl 0 rfl ?_
  obtain ⟨v1, hv1, hd⟩ := Option.bind_eq_some_iff.mp hd
  refine g_fld C gk_J4 (k := 1) (by decide) q193 (Or.inl rfl) dJ4_node_2 (gI_v hv1) ?_
  refine g_iconst (v := 1) C dJ4_node_5 (by decide) ?_
  refine g_ishr C dJ4_node_6 ?_
  refine g_icmp_ge (tgt := 35) C dJ4_node_7 (by decide) hd (fun hd => ?_) (fun hd => ?_)
  · refine g_aload_n C dJ4_node_35 rfl 0 rfl ?_
    obtain ⟨v2, hv2, hd⟩ := Option.bind_eq_some_iff.mp hd
    refine g_fld C gk_J4 (k := 3) (by decide) q196 (Or.inl rfl) dJ4_node_36 (gR_v hv2) ?_
    refine g_astore_n (L' := [(2, vR v2), (0, vR x0), (1, vI x1)]) C dJ4_node_39 rfl (by decide) rfl ?_
    refine g_aload_n C dJ4_node_40 rfl 1 rfl ?_
    obtain ⟨v3, hv3, hd⟩ := Option.bind_eq_some_iff.mp hd
    refine g_fld C gk_J4 (k := 1) (by decide) q193 (Or.inl rfl) dJ4_node_41 (gI_v hv3) ?_
    refine g_iconst (v := 1) C dJ4_node_44 (by decide) ?_
    refine g_isub C dJ4_node_45 ?_
    refine g_istore_n (L' := [(3, vI (v3 - (1 : Int32))), (2, vR v2), (0, vR x0), (1, vI x1)]) C dJ4_node_46 rfl (by decide) rfl ?_
    refine g_sub [3, 1, 0] rfl ?_
    exact w_J4_node_b47 C E Q FU _ _ _ _ hd
  · refine g_aload_n C dJ4_node_10 rfl 0 rfl ?_
    obtain ⟨v4, hv4, hd⟩ := Option.bind_eq_some_iff.mp hd
    refine g_fld C gk_J4 (k := 2) (by decide) q195 (Or.inl rfl) dJ4_node_11 (gR_v hv4) ?_
    refine g_astore_n (L' := [(2, vR v4), (0, vR x0), (1, vI x1)]) C dJ4_node_14 rfl (by decide) rfl ?_
    refine g_iconst (v := 0) C dJ4_node_15 (by decide) ?_
    refine g_istore_n (L' := [(3, vI (0 : Int32)), (2, vR v4), (0, vR x0), (1, vI x1)]) C dJ4_node_16 rfl (by decide) rfl ?_
    refine g_sub [3, 1, 0] rfl ?_
    exact w_J4_node_b17 C E Q FU _ _ _ _ hd
theorem m_J4_node {Γ : GG} {HI : St → Heap → Prop} {l : Launch} (E : EL Γ HI l) {S : St} {a0 : Option Nat} {a1 : Int32} {r : Option Nat} {S1 : St} (h : n_J4_node S a0 a1 = some (r, S1)) : MS Γ HI l yJ4_node cJ4_node 4 (some (Jvm.ClassFile.FieldType.object "java/util/LinkedList$Node")) 2 S [vR a0, vI a1] (.inl (some (vR r))) S1 := by
  refine MS_of E.ntr E.hx (by decide +kernel) rfl (Nat.le_of_ble_eq_true rfl) fun K e1 e2 e3 e4 hnm C Q => ?_
  subst e1; subst e2; subst e3
  exact w_J4_node_b0m C E Q S a0 a1 h

def n_J29_init_b38 (S : St) (x0 : Option Nat) (x2 : Int32) (y0 : Option Nat) (y1 : Option Nat) : Option (Unit × St) :=
  (pR S y1 13 1 y0).bind fun S1 =>
  (pI .int S1 x0 13 2 x2).bind fun S2 =>
  some ((), S2)
def n_J29_init (S : St) (x0 : Option Nat) (x1 : Option Nat) (x2 : Int32) : Option (Unit × St) :=
  (pR S x0 13 4 x1).bind fun S1 =>
  gd (x0).isSome <|
  (gR S1 x0 13 4).bind fun v2 =>
  (gI S1 v2 9 0).bind fun v3 =>
  (pI .int S1 x0 13 3 v3).bind fun S4 =>
  (gI S4 x1 9 1).bind fun v5 =>
  if x2 = v5 then
    n_J29_init_b38 S4 x0 x2 none x0
  else
    gd (grc S4 x1 9) <|
    bn (n_J4_node S4 x1 x2) fun v7 S6 =>
    n_J29_init_b38 S6 x0 x2 v7 x0
theorem w_J29_init_b38 {K : KT} {r : Unit} {S1 : St} (C : GC K RJ29 cJ29_init 3 3 []) (E : EL (kΓ K) (kHI K) (kl K)) (Q : GQ K none (.inl none) S1) (hnm : kLv K → (kme K).name = "<init>") : ∀ (S : St) (x0 : Option Nat) (x2 : Int32) (y0 : Option Nat) (y1 : Option Nat), n_J29_init_b38 S x0 x2 y0 y1 = some (r, S1) → G K 3 S 38 [(0, vR x0), (2, vI x2)] [vR y0, vR y1] := by
  intro S x0 x2 y0 y1 hd
  unfold n_J29_init_b38 at hd
  obtain ⟨S1, hS1, hd⟩ := Option.bind_eq_some_iff.mp hd
  refine g_put C gk_J29 (k := 1) (by decide) q908 (Or.inl rfl) rfl dJ29_init_38 (fit_ref _ (Or.inl ⟨_, rfl⟩)).1 (fit_ref _ (Or.inl ⟨_, rfl⟩)).2 hS1 ?_
  refine g_aload_n C dJ29_init_41 rfl 0 rfl ?_
  refine g_iload_n C dJ29_init_42 rfl 1 rfl ?_
  obtain ⟨S2, hS2, hd⟩ := Option.bind_eq_some_iff.mp hd
  refine g_put C gk_J29 (k := 2) (by decide) q909 (Or.inl rfl) rfl dJ29_init_43 (gfit_ok (pI_v hS2).1).1 (gfit_ok (pI_v hS2).1).2 (pI_v hS2).2 ?_
  exact g_vret C Q hd dJ29_init_46
theorem w_J29_init_b0m {K : KT} {r : Unit} {S1 : St} (C : GC K RJ29 cJ29_init 3 3 []) (E : EL (kΓ K) (kHI K) (kl K)) (Q : GQ K none (.inl none) S1) (hnm : kLv K → (kme K).name = "<init>") : ∀ (S : St) (x0 : Option Nat) (x1 : Option Nat) (x2 : Int32), n_J29_init S x0 x1 x2 = some (r, S1) → G K 3 S 0 [(0, vR x0), (1, vR x1), (2, vI x2)] [] := by
  intro S x0 x1 x2 hd
  unfold n_J29_init at hd
  refine g_aload_n C dJ29_init_0 rfl 0 rfl ?_
  refine g_aload_n C dJ29_init_1 rfl 1 rfl ?_
  obtain ⟨S1, hS1, hd⟩ := Option.bind_eq_some_iff.mp hd
  refine g_putF C gk_J29 (k := 4) (by decide) q911 rfl rfl hnm rfl dJ29_init_2 (fit_ref _ (Or.inl ⟨_, rfl⟩)).1 (fit_ref _ (Or.inl ⟨_, rfl⟩)).2 hS1 ?_
  refine g_aload_n C dJ29_init_5 rfl 0 rfl ?_
  obtain ⟨hg, hd⟩ := gd_some hd
  refine g_objInit C q905 q149 q150 (by decide) dJ29_init_6 hg (Nat.le_of_ble_eq_true rfl) ?_
  refine g_aload_n C dJ29_init_9 rfl 0 rfl ?_
  refine g_aload_n C dJ29_init_10 rfl 0 rfl ?_
  obtain ⟨v2, hv2, hd⟩ := Option.bind_eq_some_iff.mp hd
  refine g_fld C gk_J29 (k := 4) (by decide) q911 (Or.inl rfl) dJ29_init_11 (gR_v hv2) ?_
  obtain ⟨v3, hv3, hd⟩ := Option.bind_eq_some_iff.mp hd
  refine g_fld C gk_J4 (k := 0) (by decide) q170 (Or.inr q171) dJ29_init_14 (gI_v hv3) ?_
  obtain ⟨S4, hS4, hd⟩ := Option.bind_eq_some_iff.mp hd
  refine g_put C gk_J29 (k := 3) (by decide) q910 (Or.inl rfl) rfl dJ29_init_17 (gfit_ok (pI_v hS4).1).1 (gfit_ok (pI_v hS4).1).2 (pI_v hS4).2 ?_
  refine g_aload_n C dJ29_init_20 rfl 0 rfl ?_
  refine g_iload_n C dJ29_init_21 rfl 2 rfl ?_
  refine g_aload_n C dJ29_init_22 rfl 1 rfl ?_
  obtain ⟨v5, hv5, hd⟩ := Option.bind_eq_some_iff.mp hd
  refine g_fld C gk_J4 (k := 1) (by decide) q194 (Or.inl rfl) dJ29_init_23 (gI_v hv5) ?_
  refine g_icmp_ne (tgt := 33) C dJ29_init_26 (by decide) hd (fun hd => ?_) (fun hd => ?_)
  · refine g_aload_n C dJ29_init_33 rfl 1 rfl ?_
    refine g_iload_n C dJ29_init_34 rfl 2 rfl ?_
    obtain ⟨hg, hd⟩ := gd_some hd
    obtain ⟨v7, S6, hc, hd⟩ := bn_some hd
    refine g_cV_v (n := 1) C (gk_J4).1 q906 q791 q792 q100 q793 (by decide +kernel) (by decide) (by decide) dJ29_init_35 (As := [vI x2]) (rest := [vR x0]) rfl rfl (Nat.le_of_ble_eq_true rfl) hg (m_J4_node E hc) ?_
    refine g_sub [0, 2] rfl ?_
    exact w_J29_init_b38 C E Q hnm _ _ _ _ _ hd
  · refine g_null C dJ29_init_29 ?_
    refine g_goto (tgt := 38) C dJ29_init_30 (by decide) ?_
    refine g_sub [0, 2] rfl ?_
    exact w_J29_init_b38 C E Q hnm _ _ _ _ _ hd
theorem m_J29_init {Γ : GG} {HI : St → Heap → Prop} {l : Launch} (E : EL Γ HI l) {S : St} {a0 : Option Nat} {a1 : Option Nat} {a2 : Int32} {r : Unit} {S1 : St} (h : n_J29_init S a0 a1 a2 = some (r, S1)) : MS Γ HI l yJ29_init cJ29_init 3 none 3 S [vR a0, vR a1, vI a2] (.inl none) S1 := by
  refine MS_of E.ntr E.hx (by decide +kernel) rfl (Nat.le_of_ble_eq_true rfl) fun K e1 e2 e3 e4 hnm C Q => ?_
  subst e1; subst e2; subst e3
  exact w_J29_init_b0m C E Q (by exact hnm) S a0 a1 a2 h

def n_J4_listIterator (S : St) (x0 : Option Nat) (x1 : Int32) : Option (Option Nat × St) :=
  gd (grc S x0 9) <|
  bn (n_J4_checkPositionIndex S x0 x1) fun _ S1 =>
  nwB S1 (cO 13 [vR none, vR none, vI 0, vI 0, vR none]) 5 fun q3 S4 =>
  gd (q3).isSome <|
  bn (n_J29_init S4 q3 x0 x1) fun _ S5 =>
  some (q3, S5)
theorem w_J4_listIterator_b0m {K : KT} {r : Option Nat} {S1 : St} (C : GC K RJ4 cJ4_listIterator 2 4 []) (E : EL (kΓ K) (kHI K) (kl K)) (Q : GQ K (some (Jvm.ClassFile.FieldType.object "java/util/ListIterator")) (.inl (some (vR r))) S1) : ∀ (S : St) (x0 : Option Nat) (x1 : Int32), n_J4_listIterator S x0 x1 = some (r, S1) → G K 2 S 0 [(0, vR x0), (1, vI x1)] [] := by
  intro S x0 x1 hd
  unfold n_J4_listIterator at hd
  refine g_aload_n C dJ4_listIterator_0 rfl 0 rfl ?_
  refine g_iload_n C dJ4_listIterator_1 rfl 1 rfl ?_
  obtain ⟨hg, hd⟩ := gd_some hd
  obtain ⟨_, S1, hc, hd⟩ := bn_some hd
  refine g_cV_n (n := 1) C (gk_J4).1 q892 q894 qs11 q100 q895 (by decide +kernel) (by decide) (by decide) dJ4_listIterator_2 (As := [vI x1]) (rest := []) rfl rfl (Nat.le_of_ble_eq_true rfl) hg (m_J4_checkPositionIndex E hc) ?_
  refine g_new C gk_J29 (fun j hj => gdf_J29 j hj) q900 q901 q129 dJ4_listIterator_5 hd (fun q3 S4 hd => ?_)
  refine g_dup C dJ4_listIterator_8 rfl ?_
  refine g_aload_n C dJ4_listIterator_9 rfl 0 rfl ?_
  refine g_iload_n C dJ4_listIterator_10 rfl 1 rfl ?_
  obtain ⟨hg, hd⟩ := gd_some hd
  obtain ⟨_, S5, hc, hd⟩ := bn_some hd
  refine g_cI_n (n := 2) C q902 q903 q129 q904 rfl (by decide +kernel) (by decide) (by decide) dJ4_listIterator_11 (As := [vR x0, vI x1]) (rest := [vR q3]) rfl rfl (Nat.le_of_ble_eq_true rfl) hg (m_J29_init E hc) ?_
  exact g_aret C Q (Or.inl ⟨_, rfl⟩) hd dJ4_listIterator_14
theorem m_J4_listIterator {Γ : GG} {HI : St → Heap → Prop} {l : Launch} (E : EL Γ HI l) {S : St} {a0 : Option Nat} {a1 : Int32} {r : Option Nat} {S1 : St} (h : n_J4_listIterator S a0 a1 = some (r, S1)) : MS Γ HI l yJ4_listIterator cJ4_listIterator 2 (some (Jvm.ClassFile.FieldType.object "java/util/ListIterator")) 4 S [vR a0, vI a1] (.inl (some (vR r))) S1 := by
  refine MS_of E.ntr E.hx (by decide +kernel) rfl (Nat.le_of_ble_eq_true rfl) fun K e1 e2 e3 e4 hnm C Q => ?_
  subst e1; subst e2; subst e3
  exact w_J4_listIterator_b0m C E Q S a0 a1 h

def n_J1_listIterator (S : St) (x0 : Option Nat) : Option (Option Nat × St) :=
  gd (grc S x0 9) <|
  bn (n_J4_listIterator S x0 (0 : Int32)) fun v2 S1 =>
  some (v2, S1)
theorem w_J1_listIterator_b0m {K : KT} {r : Option Nat} {S1 : St} (C : GC K RJ1 cJ1_listIterator 1 5 []) (E : EL (kΓ K) (kHI K) (kl K)) (Q : GQ K (some (Jvm.ClassFile.FieldType.object "java/util/ListIterator")) (.inl (some (vR r))) S1) : ∀ (S : St) (x0 : Option Nat), n_J1_listIterator S x0 = some (r, S1) → G K 1 S 0 [(0, vR x0)] [] := by
  intro S x0 hd
  unfold n_J1_listIterator at hd
  refine g_aload_n C dJ1_listIterator_0 rfl 0 rfl ?_
  refine g_iconst (v := 0) C dJ1_listIterator_1 (by decide) ?_
  obtain ⟨hg, hd⟩ := gd_some hd
  obtain ⟨v2, S1, hc, hd⟩ := bn_some hd
  refine g_cA_v (n := 1) C (gk_J4).1 q852 q854 q890 q889 q100 q891 q923 (by decide +kernel) (by decide) (by decide) dJ1_listIterator_2 (As := [vI (0 : Int32)]) (rest := []) rfl rfl (Nat.le_of_ble_eq_true rfl) hg (m_J4_listIterator E hc) ?_
  exact g_aret C Q (Or.inl ⟨_, rfl⟩) hd dJ1_listIterator_5
theorem m_J1_listIterator {Γ : GG} {HI : St → Heap → Prop} {l : Launch} (E : EL Γ HI l) {S : St} {a0 : Option Nat} {r : Option Nat} {S1 : St} (h : n_J1_listIterator S a0 = some (r, S1)) : MS Γ HI l yJ1_listIterator cJ1_listIterator 1 (some (Jvm.ClassFile.FieldType.object "java/util/ListIterator")) 5 S [vR a0] (.inl (some (vR r))) S1 := by
  refine MS_of E.ntr E.hx (by decide +kernel) rfl (Nat.le_of_ble_eq_true rfl) fun K e1 e2 e3 e4 hnm C Q => ?_
  subst e1; subst e2; subst e3
  exact w_J1_listIterator_b0m C E Q S a0 h

def n_J3_iterator (S : St) (x0 : Option Nat) : Option (Option Nat × St) :=
  gd (grc S x0 9) <|
  bn (n_J1_listIterator S x0) fun v2 S1 =>
  some (v2, S1)
theorem w_J3_iterator_b0m {K : KT} {r : Option Nat} {S1 : St} (C : GC K RJ3 cJ3_iterator 1 6 []) (E : EL (kΓ K) (kHI K) (kl K)) (Q : GQ K (some (Jvm.ClassFile.FieldType.object "java/util/Iterator")) (.inl (some (vR r))) S1) : ∀ (S : St) (x0 : Option Nat), n_J3_iterator S x0 = some (r, S1) → G K 1 S 0 [(0, vR x0)] [] := by
  intro S x0 hd
  unfold n_J3_iterator at hd
  refine g_aload_n C dJ3_iterator_0 rfl 0 rfl ?_
  obtain ⟨hg, hd⟩ := gd_some hd
  obtain ⟨v2, S1, hc, hd⟩ := bn_some hd
  refine g_cU_v (n := 0) C (gk_J4).1 q846 q847 q850 q849 q97 q851 rfl (by decide +kernel) (by decide) (by decide) dJ3_iterator_1 (As := []) (rest := []) rfl rfl (Nat.le_of_ble_eq_true rfl) hg (m_J1_listIterator E hc) ?_
  exact g_aret C Q (Or.inl ⟨_, rfl⟩) hd dJ3_iterator_4
theorem m_J3_iterator {Γ : GG} {HI : St → Heap → Prop} {l : Launch} (E : EL Γ HI l) {S : St} {a0 : Option Nat} {r : Option Nat} {S1 : St} (h : n_J3_iterator S a0 = some (r, S1)) : MS Γ HI l yJ3_iterator cJ3_iterator 1 (some (Jvm.ClassFile.FieldType.object "java/util/Iterator")) 6 S [vR a0] (.inl (some (vR r))) S1 := by
  refine MS_of E.ntr E.hx (by decide +kernel) rfl (Nat.le_of_ble_eq_true rfl) fun K e1 e2 e3 e4 hnm C Q => ?_
  subst e1; subst e2; subst e3
  exact w_J3_iterator_b0m C E Q S a0 h

def n_J29_hasNext (S : St) (x0 : Option Nat) : Option (Int32 × St) :=
  (gI S x0 13 2).bind fun v1 =>
  (gR S x0 13 4).bind fun v2 =>
  (gI S v2 9 1).bind fun v3 =>
  if v3 ≤ v1 then
    rtI id (Jvm.ClassFile.FieldType.boolean) (0 : Int32) S
  else
    rtI id (Jvm.ClassFile.FieldType.boolean) (1 : Int32) S
theorem w_J29_hasNext_b0m {K : KT} {r : Int32} {S1 : St} (C : GC K RJ29 cJ29_hasNext 1 2 []) (E : EL (kΓ K) (kHI K) (kl K)) (Q : GQ K (some (Jvm.ClassFile.FieldType.boolean)) (.inl (some (vI r))) S1) : ∀ (S : St) (x0 : Option Nat), n_J29_hasNext S x0 = some (r, S1) → G K 1 S 0 [(0, vR x0)] [] := by
  intro S x0 hd
  unfold n_J29_hasNext at hd
  refine g_aload_n C dJ29_hasNext_0 rfl 0 rfl ?_
  obtain ⟨v1, hv1, hd⟩ := Option.bind_eq_some_iff.mp hd
  refine g_fld C gk_J29 (k := 2) (by decide) q909 (Or.inl rfl) dJ29_hasNext_1 (gI_v hv1) ?_
  refine g_aload_n C dJ29_hasNext_4 rfl 0 rfl ?_
  obtain ⟨v2, hv2, hd⟩ := Option.bind_eq_some_iff.mp hd
  refine g_fld C gk_J29 (k := 4) (by decide) q911 (Or.inl rfl) dJ29_hasNext_5 (gR_v hv2) ?_
  obtain ⟨v3, hv3, hd⟩ := Option.bind_eq_some_iff.mp hd
  refine g_fld C gk_J4 (k := 1) (by decide) q194 (Or.inl rfl) dJ29_hasNext_8 (gI_v hv3) ?_
  refine g_icmp_ge (tgt := 18) C dJ29_hasNext_11 (by decide) hd (fun hd => ?_) (fun hd => ?_)
  · refine g_iconst (v := 0) C dJ29_hasNext_18 (by decide) ?_
    exact g_iret C Q hd dJ29_hasNext_19
  · refine g_iconst (v := 1) C dJ29_hasNext_14 (by decide) ?_
    refine g_goto (tgt := 19) C dJ29_hasNext_15 (by decide) ?_
    exact g_iret C Q hd dJ29_hasNext_19
theorem m_J29_hasNext {Γ : GG} {HI : St → Heap → Prop} {l : Launch} (E : EL Γ HI l) {S : St} {a0 : Option Nat} {r : Int32} {S1 : St} (h : n_J29_hasNext S a0 = some (r, S1)) : MS Γ HI l yJ29_hasNext cJ29_hasNext 1 (some (Jvm.ClassFile.FieldType.boolean)) 2 S [vR a0] (.inl (some (vI r))) S1 := by
  refine MS_of E.ntr E.hx (by decide +kernel) rfl (Nat.le_of_ble_eq_true rfl) fun K e1 e2 e3 e4 hnm C Q => ?_
  subst e1; subst e2; subst e3
  exact w_J29_hasNext_b0m C E Q S a0 h

def n_J29_checkForComodification (S : St) (x0 : Option Nat) : Option (Unit × St) :=
  (gR S x0 13 4).bind fun v1 =>
  (gI S v1 9 0).bind fun v2 =>
  (gI S x0 13 3).bind fun v3 =>
  if v2 = v3 then
    some ((), S)
  else
    none
theorem w_J29_checkForComodification_b0m {K : KT} {r : Unit} {S1 : St} (C : GC K RJ29 cJ29_checkForComodification 1 2 []) (E : EL (kΓ K) (kHI K) (kl K)) (Q : GQ K none (.inl none) S1) : ∀ (S : St) (x0 : Option Nat), n_J29_checkForComodification S x0 = some (r, S1) → G K 1 S 0 [(0, vR x0)] [] := by
  intro S x0 hd
  unfold n_J29_checkForComodification at hd
  refine g_aload_n C dJ29_checkForComodification_0 rfl 0 rfl ?_
  obtain ⟨v1, hv1, hd⟩ := Option.bind_eq_some_iff.mp hd
  refine g_fld C gk_J29 (k := 4) (by decide) q911 (Or.inl rfl) dJ29_checkForComodification_1 (gR_v hv1) ?_
  obtain ⟨v2, hv2, hd⟩ := Option.bind_eq_some_iff.mp hd
  refine g_fld C gk_J4 (k := 0) (by decide) q170 (Or.inr q171) dJ29_checkForComodification_4 (gI_v hv2) ?_
  refine g_aload_n C dJ29_checkForComodification_7 rfl 0 rfl ?_
  obtain ⟨v3, hv3, hd⟩ := Option.bind_eq_some_iff.mp hd
  refine g_fld C gk_J29 (k := 3) (by decide) q910 (Or.inl rfl) dJ29_checkForComodification_8 (gI_v hv3) ?_
  refine g_icmp_eq (tgt := 22) C dJ29_checkForComodification_11 (by decide) hd (fun hd => ?_) (fun hd => ?_)
  · exact g_vret C Q hd dJ29_checkForComodification_22
  · cases hd
theorem m_J29_checkForComodification {Γ : GG} {HI : St → Heap → Prop} {l : Launch} (E : EL Γ HI l) {S : St} {a0 : Option Nat} {r : Unit} {S1 : St} (h : n_J29_checkForComodification S a0 = some (r, S1)) : MS Γ HI l yJ29_checkForComodification cJ29_checkForComodification 1 none 2 S [vR a0] (.inl none) S1 := by
  refine MS_of E.ntr E.hx (by decide +kernel) rfl (Nat.le_of_ble_eq_true rfl) fun K e1 e2 e3 e4 hnm C Q => ?_
  subst e1; subst e2; subst e3
  exact w_J29_checkForComodification_b0m C E Q S a0 h

def n_J29_next (S : St) (x0 : Option Nat) : Option (Option Nat × St) :=
  gd (grc S x0 13) <|
  bn (n_J29_checkForComodification S x0) fun _ S1 =>
  gd (grc S1 x0 13) <|
  bn (n_J29_hasNext S1 x0) fun v4 S3 =>
  if v4 = 0 then
    none
  else
    (gR S3 x0 13 1).bind fun v5 =>
    (pR S3 x0 13 0 v5).bind fun S6 =>
    (gR S6 x0 13 1).bind fun v7 =>
    (gR S6 v7 11 1).bind fun v8 =>
    (pR S6 x0 13 1 v8).bind fun S9 =>
    (gI S9 x0 13 2).bind fun v10 =>
    (pI .int S9 x0 13 2 (v10 + (1 : Int32))).bind fun S11 =>
    (gR S11 x0 13 0).bind fun v12 =>
    (gR S11 v12 11 0).bind fun v13 =>
    some (v13, S11)
theorem w_J29_next_b0m {K : KT} {r : Option Nat} {S1 : St} (C : GC K RJ29 cJ29_next 1 3 []) (E : EL (kΓ K) (kHI K) (kl K)) (Q : GQ K (some (Jvm.ClassFile.FieldType.object "java/lang/Object")) (.inl (some (vR r))) S1) : ∀ (S : St) (x0 : Option Nat), n_J29_next S x0 = some (r, S1) → G K 1 S 0 [(0, vR x0)] [] := by
  intro S x0 hd
  unfold n_J29_next at hd
  refine g_aload_n C dJ29_next_0 rfl 0 rfl ?_
  obtain ⟨hg, hd⟩ := gd_some hd
  obtain ⟨_, S1, hc, hd⟩ := bn_some hd
  refine g_cV_n (n := 0) C (gk_J29).1 q1050 q1051 q1052 q129 q1053 (by decide +kernel) (by decide) (by decide) dJ29_next_1 (As := []) (rest := []) rfl rfl (Nat.le_of_ble_eq_true rfl) hg (m_J29_checkForComodification E hc) ?_
  refine g_aload_n C dJ29_next_4 rfl 0 rfl ?_
  obtain ⟨hg, hd⟩ := gd_some hd
  obtain ⟨v4, S3, hc, hd⟩ := bn_some hd
  refine g_cV_v (n := 0) C (gk_J29).1 q1054 q951 q2417 q129 q953 (by decide +kernel) (by decide) (by decide) dJ29_next_5 (As := []) (rest := []) rfl rfl (Nat.le_of_ble_eq_true rfl) hg (m_J29_hasNext E hc) ?_
  refine g_if_ne (tgt := 19) C dJ29_next_8 (by decide) hd (fun hd => ?_) (fun hd => ?_)
  · refine g_aload_n C dJ29_next_19 rfl 0 rfl ?_
    refine g_aload_n C dJ29_next_20 rfl 0 rfl ?_
    obtain ⟨v5, hv5, hd⟩ := Option.bind_eq_some_iff.mp hd
    refine g_fld C gk_J29 (k := 1) (by decide) q908 (Or.inl rfl) dJ29_next_21 (gR_v hv5) ?_
    obtain ⟨S6, hS6, hd⟩ := Option.bind_eq_some_iff.mp hd
    refine g_put C gk_J29 (k := 0) (by decide) q907 (Or.inl rfl) rfl dJ29_next_24 (fit_ref _ (Or.inl ⟨_, rfl⟩)).1 (fit_ref _ (Or.inl ⟨_, rfl⟩)).2 hS6 ?_
    refine g_aload_n C dJ29_next_27 rfl 0 rfl ?_
    refine g_aload_n C dJ29_next_28 rfl 0 rfl ?_
    obtain ⟨v7, hv7, hd⟩ := Option.bind_eq_some_iff.mp hd
    refine g_fld C gk_J29 (k := 1) (by decide) q908 (Or.inl rfl) dJ29_next_29 (gR_v hv7) ?_
    obtain ⟨v8, hv8, hd⟩ := Option.bind_eq_some_iff.mp hd
    refine g_fld C gk_J9 (k := 1) (by decide) q374 (Or.inl rfl) dJ29_next_32 (gR_v hv8) ?_
    obtain ⟨S9, hS9, hd⟩ := Option.bind_eq_some_iff.mp hd
    refine g_put C gk_J29 (k := 1) (by decide) q908 (Or.inl rfl) rfl dJ29_next_35 (fit_ref _ (Or.inl ⟨_, rfl⟩)).1 (fit_ref _ (Or.inl ⟨_, rfl⟩)).2 hS9 ?_
    refine g_aload_n C dJ29_next_38 rfl 0 rfl ?_
    refine g_dup C dJ29_next_39 rfl ?_
    obtain ⟨v10, hv10, hd⟩ := Option.bind_eq_some_iff.mp hd
    refine g_fld C gk_J29 (k := 2) (by decide) q909 (Or.inl rfl) dJ29_next_40 (gI_v hv10) ?_
    refine g_iconst (v := 1) C dJ29_next_43 (by decide) ?_
    refine g_iadd C dJ29_next_44 ?_
    obtain ⟨S11, hS11, hd⟩ := Option.bind_eq_some_iff.mp hd
    refine g_put C gk_J29 (k := 2) (by decide) q909 (Or.inl rfl) rfl dJ29_next_45 (gfit_ok (pI_v hS11).1).1 (gfit_ok (pI_v hS11).1).2 (pI_v hS11).2 ?_
    refine g_aload_n C dJ29_next_48 rfl 0 rfl ?_
    obtain ⟨v12, hv12, hd⟩ := Option.bind_eq_some_iff.mp hd
    refine g_fld C gk_J29 (k := 0) (by decide) q907 (Or.inl rfl) dJ29_next_49 (gR_v hv12) ?_
    obtain ⟨v13, hv13, hd⟩ := Option.bind_eq_some_iff.mp hd
    refine g_fld C gk_J9 (k := 0) (by decide) q371 (Or.inl rfl) dJ29_next_52 (gR_v hv13) ?_
    exact g_aret C Q (Or.inl ⟨_, rfl⟩) hd dJ29_next_55
  · cases hd
theorem m_J29_next {Γ : GG} {HI : St → Heap → Prop} {l : Launch} (E : EL Γ HI l) {S : St} {a0 : Option Nat} {r : Option Nat} {S1 : St} (h : n_J29_next S a0 = some (r, S1)) : MS Γ HI l yJ29_next cJ29_next 1 (some (Jvm.ClassFile.FieldType.object "java/lang/Object")) 3 S [vR a0] (.inl (some (vR r))) S1 := by
  refine MS_of E.ntr E.hx (by decide +kernel) rfl (Nat.le_of_ble_eq_true rfl) fun K e1 e2 e3 e4 hnm C Q => ?_
  subst e1; subst e2; subst e3
  exact w_J29_next_b0m C E Q S a0 h

def n_J29_remove_b68 (S : St) (x0 : Option Nat) : Option (Unit × St) :=
  (pR S x0 13 0 none).bind fun S1 =>
  (gI S1 x0 13 3).bind fun v2 =>
  (pI .int S1 x0 13 3 (v2 + (1 : Int32))).bind fun S3 =>
  some ((), S3)
def n_J29_remove (S : St) (x0 : Option Nat) : Option (Unit × St) :=
  gd (grc S x0 13) <|
  bn (n_J29_checkForComodification S x0) fun _ S1 =>
  (gR S1 x0 13 0).bind fun v3 =>
  if v3 = none then
    none
  else
    (gR S1 x0 13 0).bind fun v4 =>
    (gR S1 v4 11 1).bind fun v5 =>
    (gR S1 x0 13 4).bind fun v6 =>
    (gR S1 x0 13 0).bind fun v7 =>
    gd (grc S1 v6 9) <|
    bn (n_J4_unlink S1 v6 v7) fun v9 S8 =>
    (gR S8 x0 13 1).bind fun v10 =>
    (gR S8 x0 13 0).bind fun v11 =>
    if v10 = v11 then
      (pR S8 x0 13 1 v5).bind fun S14 =>
      n_J29_remove_b68 S14 x0
    else
      (gI S8 x0 13 2).bind fun v12 =>
      (pI .int S8 x0 13 2 (v12 - (1 : Int32))).bind fun S13 =>
      n_J29_remove_b68 S13 x0
theorem w_J29_remove_b68 {K : KT} {r : Unit} {S1 : St} (C : GC K RJ29 cJ29_remove 2 3 []) (E : EL (kΓ K) (kHI K) (kl K)) (Q : GQ K none (.inl none) S1) : ∀ (S : St) (x0 : Option Nat), n_J29_remove_b68 S x0 = some (r, S1) → G K 2 S 68 [(0, vR x0)] [] := by
  intro S x0 hd
  unfold n_J29_remove_b68 at hd
  refine g_aload_n C dJ29_remove_68 rfl 0 rfl ?_
  refine g_null C dJ29_remove_69 ?_
  obtain ⟨S1, hS1, hd⟩ := Option.bind_eq_some_iff.mp hd
  refine g_put C gk_J29 (k := 0) (by decide) q907 (Or.inl rfl) rfl dJ29_remove_70 (fit_ref _ (Or.inl ⟨_, rfl⟩)).1 (fit_ref _ (Or.inl ⟨_, rfl⟩)).2 hS1 ?_
  refine g_aload_n C dJ29_remove_73 rfl 0 rfl ?_
  refine g_dup C dJ29_remove_74 rfl ?_
  obtain ⟨v2, hv2, hd⟩ := Option.bind_eq_some_iff.mp hd
  refine g_fld C gk_J29 (k := 3) (by decide) q910 (Or.inl rfl) dJ29_remove_75 (gI_v hv2) ?_
  refine g_iconst (v := 1) C dJ29_remove_78 (by decide) ?_
  refine g_iadd C dJ29_remove_79 ?_
  obtain ⟨S3, hS3, hd⟩ := Option.bind_eq_some_iff.mp hd
  refine g_put C gk_J29 (k := 3) (by decide) q910 (Or.inl rfl) rfl dJ29_remove_80 (gfit_ok (pI_v hS3).1).1 (gfit_ok (pI_v hS3).1).2 (pI_v hS3).2 ?_
  exact g_vret C Q hd dJ29_remove_83
theorem w_J29_remove_b0m {K : KT} {r : Unit} {S1 : St} (C : GC K RJ29 cJ29_remove 2 3 []) (E : EL (kΓ K) (kHI K) (kl K)) (Q : GQ K none (.inl none) S1) : ∀ (S : St) (x0 : Option Nat), n_J29_remove S x0 = some (r, S1) → G K 2 S 0 [(0, vR x0)] [] := by
  intro S x0 hd
  unfold n_J29_remove at hd
  refine g_aload_n C dJ29_remove_0 rfl 0 rfl ?_
  obtain ⟨hg, hd⟩ := gd_some hd
  obtain ⟨_, S1, hc, hd⟩ := bn_some hd
  refine g_cV_n (n := 0) C (gk_J29).1 q1050 q1051 q1052 q129 q1053 (by decide +kernel) (by decide) (by decide) dJ29_remove_1 (As := []) (rest := []) rfl rfl (Nat.le_of_ble_eq_true rfl) hg (m_J29_checkForComodification E hc) ?_
  refine g_aload_n C dJ29_remove_4 rfl 0 rfl ?_
  obtain ⟨v3, hv3, hd⟩ := Option.bind_eq_some_iff.mp hd
  refine g_fld C gk_J29 (k := 0) (by decide) q907 (Or.inl rfl) dJ29_remove_5 (gR_v hv3) ?_
  refine g_ifnonnull (tgt := 19) C dJ29_remove_8 (by decide) hd (fun hd => ?_) (fun hd => ?_)
  · refine g_aload_n C dJ29_remove_19 rfl 0 rfl ?_
    obtain ⟨v4, hv4, hd⟩ := Option.bind_eq_some_iff.mp hd
    refine g_fld C gk_J29 (k := 0) (by decide) q907 (Or.inl rfl) dJ29_remove_20 (gR_v hv4) ?_
    obtain ⟨v5, hv5, hd⟩ := Option.bind_eq_some_iff.mp hd
    refine g_fld C gk_J9 (k := 1) (by decide) q374 (Or.inl rfl) dJ29_remove_23 (gR_v hv5) ?_
    refine g_astore_n (L' := [(1, vR v5), (0, vR x0)]) C dJ29_remove_26 rfl (by decide) rfl ?_
    refine g_aload_n C dJ29_remove_27 rfl 1 rfl ?_
    obtain ⟨v6, hv6, hd⟩ := Option.bind_eq_some_iff.mp hd
    refine g_fld C gk_J29 (k := 4) (by decide) q911 (Or.inl rfl) dJ29_remove_28 (gR_v hv6) ?_
    refine g_aload_n C dJ29_remove_31 rfl 1 rfl ?_
    obtain ⟨v7, hv7, hd⟩ := Option.bind_eq_some_iff.mp hd
    refine g_fld C gk_J29 (k := 0) (by decide) q907 (Or.inl rfl) dJ29_remove_32 (gR_v hv7) ?_
    obtain ⟨hg, hd⟩ := gd_some hd
    obtain ⟨v9, S8, hc, hd⟩ := bn_some hd
    refine g_cV_v (n := 1) C (gk_J4).1 q1360 q1324 q1325 q100 q1326 (by decide +kernel) (by decide) (by decide) dJ29_remove_35 (As := [vR v7]) (rest := []) rfl rfl (Nat.le_of_ble_eq_true rfl) hg (m_J4_unlink E hc) ?_
    refine g_pop C dJ29_remove_38 rfl ?_
    refine g_aload_n C dJ29_remove_39 rfl 1 rfl ?_
    obtain ⟨v10, hv10, hd⟩ := Option.bind_eq_some_iff.mp hd
    refine g_fld C gk_J29 (k := 1) (by decide) q908 (Or.inl rfl) dJ29_remove_40 (gR_v hv10) ?_
    refine g_aload_n C dJ29_remove_43 rfl 1 rfl ?_
    obtain ⟨v11, hv11, hd⟩ := Option.bind_eq_some_iff.mp hd
    refine g_fld C gk_J29 (k := 0) (by decide) q907 (Or.inl rfl) dJ29_remove_44 (gR_v hv11) ?_
    refine g_acmp_ne (tgt := 58) C dJ29_remove_47 (by decide) hd (fun hd => ?_) (fun hd => ?_)
    · refine g_aload_n C dJ29_remove_58 rfl 1 rfl ?_
      refine g_dup C dJ29_remove_59 rfl ?_
      obtain ⟨v12, hv12, hd⟩ := Option.bind_eq_some_iff.mp hd
      refine g_fld C gk_J29 (k := 2) (by decide) q909 (Or.inl rfl) dJ29_remove_60 (gI_v hv12) ?_
      refine g_iconst (v := 1) C dJ29_remove_63 (by decide) ?_
      refine g_isub C dJ29_remove_64 ?_
      obtain ⟨S13, hS13, hd⟩ := Option.bind_eq_some_iff.mp hd
      refine g_put C gk_J29 (k := 2) (by decide) q909 (Or.inl rfl) rfl dJ29_remove_65 (gfit_ok (pI_v hS13).1).1 (gfit_ok (pI_v hS13).1).2 (pI_v hS13).2 ?_
      refine g_sub [1] rfl ?_
      exact w_J29_remove_b68 C E Q _ _ hd
    · refine g_aload_n C dJ29_remove_50 rfl 1 rfl ?_
      refine g_aload_n C dJ29_remove_51 rfl 0 rfl ?_
      obtain ⟨S14, hS14, hd⟩ := Option.bind_eq_some_iff.mp hd
      refine g_put C gk_J29 (k := 1) (by decide) q908 (Or.inl rfl) rfl dJ29_remove_52 (fit_ref _ (Or.inl ⟨_, rfl⟩)).1 (fit_ref _ (Or.inl ⟨_, rfl⟩)).2 hS14 ?_
      refine g_goto (tgt := 68) C dJ29_remove_55 (by decide) ?_
      refine g_sub [1] rfl ?_
      exact w_J29_remove_b68 C E Q _ _ hd
  · cases hd
theorem m_J29_remove {Γ : GG} {HI : St → Heap → Prop} {l : Launch} (E : EL Γ HI l) {S : St} {a0 : Option Nat} {r : Unit} {S1 : St} (h : n_J29_remove S a0 = some (r, S1)) : MS Γ HI l yJ29_remove cJ29_remove 2 none 3 S [vR a0] (.inl none) S1 := by
  refine MS_of E.ntr E.hx (by decide +kernel) rfl (Nat.le_of_ble_eq_true rfl) fun K e1 e2 e3 e4 hnm C Q => ?_
  subst e1; subst e2; subst e3
  exact w_J29_remove_b0m C E Q S a0 h

def n_J5_wordIndex (S : St) (x0 : Int32) : Option (Int32 × St) :=
  rtI id (Jvm.ClassFile.FieldType.int) (x0 >>> ((6 : Int32) &&& 31)) S
theorem w_J5_wordIndex_b0m {K : KT} {r : Int32} {S1 : St} (C : GC K RJ5 cJ5_wordIndex 1 2 []) (E : EL (kΓ K) (kHI K) (kl K)) (Q : GQ K (some (Jvm.ClassFile.FieldType.int)) (.inl (some (vI r))) S1) : ∀ (S : St) (x0 : Int32), n_J5_wordIndex S x0 = some (r, S1) → G K 1 S 0 [(0, vI x0)] [] := by
  intro S x0 hd
  unfold n_J5_wordIndex at hd
  refine g_iload_n C dJ5_wordIndex_0 rfl 0 rfl ?_
  refine g_bipush (v := 6) C dJ5_wordIndex_1 (by decide) ?_
  refine g_ishr C dJ5_wordIndex_3 ?_
  exact g_iret C Q hd dJ5_wordIndex_4
theorem m_J5_wordIndex {Γ : GG} {HI : St → Heap → Prop} {l : Launch} (E : EL Γ HI l) {S : St} {a0 : Int32} {r : Int32} {S1 : St} (h : n_J5_wordIndex S a0 = some (r, S1)) : MS Γ HI l yJ5_wordIndex cJ5_wordIndex 1 (some (Jvm.ClassFile.FieldType.int)) 2 S [vI a0] (.inl (some (vI r))) S1 := by
  refine MS_of E.ntr E.hx (by decide +kernel) rfl (Nat.le_of_ble_eq_true rfl) fun K e1 e2 e3 e4 hnm C Q => ?_
  subst e1; subst e2; subst e3
  exact w_J5_wordIndex_b0m C E Q S a0 h

def n_J5_initWords (S : St) (x0 : Option Nat) (x1 : Int32) : Option (Unit × St) :=
  bn (n_J5_wordIndex S (x1 - (1 : Int32))) fun v2 S1 =>
  naB S1 3 (v2 + (1 : Int32)) fun q3 S4 =>
  (pR S4 x0 10 0 q3).bind fun S5 =>
  some ((), S5)
theorem w_J5_initWords_b0m {K : KT} {r : Unit} {S1 : St} (C : GC K RJ5 cJ5_initWords 2 3 []) (E : EL (kΓ K) (kHI K) (kl K)) (Q : GQ K none (.inl none) S1) : ∀ (S : St) (x0 : Option Nat) (x1 : Int32), n_J5_initWords S x0 x1 = some (r, S1) → G K 2 S 0 [(0, vR x0), (1, vI x1)] [] := by
  intro S x0 x1 hd
  unfold n_J5_initWords at hd
  refine g_aload_n C dJ5_initWords_0 rfl 0 rfl ?_
  refine g_iload_n C dJ5_initWords_1 rfl 1 rfl ?_
  refine g_iconst (v := 1) C dJ5_initWords_2 (by decide) ?_
  refine g_isub C dJ5_initWords_3 ?_
  obtain ⟨v2, S1, hc, hd⟩ := bn_some hd
  refine g_cS_v (n := 1) C q217 q218 q101 q219 (by decide +kernel) (by decide) (by decide) dJ5_initWords_4 (As := [vI (x1 - (1 : Int32))]) (rest := [vR x0]) rfl rfl (Nat.le_of_ble_eq_true rfl) (m_J5_wordIndex E hc) ?_
  refine g_iconst (v := 1) C dJ5_initWords_7 (by decide) ?_
  refine g_iadd C dJ5_initWords_8 ?_
  refine g_newa (atype := .long) C 3 (by decide) rfl q230 dJ5_initWords_9 hd (fun q3 S4 hd => ?_)
  obtain ⟨S5, hS5, hd⟩ := Option.bind_eq_some_iff.mp hd
  refine g_put C gk_J5 (k := 0) (by decide) q220 (Or.inl rfl) rfl dJ5_initWords_11 (fit_ref _ (Or.inr ⟨_, rfl⟩)).1 (fit_ref _ (Or.inr ⟨_, rfl⟩)).2 hS5 ?_
  exact g_vret C Q hd dJ5_initWords_14
theorem m_J5_initWords {Γ : GG} {HI : St → Heap → Prop} {l : Launch} (E : EL Γ HI l) {S : St} {a0 : Option Nat} {a1 : Int32} {r : Unit} {S1 : St} (h : n_J5_initWords S a0 a1 = some (r, S1)) : MS Γ HI l yJ5_initWords cJ5_initWords 2 none 3 S [vR a0, vI a1] (.inl none) S1 := by
  refine MS_of E.ntr E.hx (by decide +kernel) rfl (Nat.le_of_ble_eq_true rfl) fun K e1 e2 e3 e4 hnm C Q => ?_
  subst e1; subst e2; subst e3
  exact w_J5_initWords_b0m C E Q S a0 a1 h

def n_J5_init (S : St) (x0 : Option Nat) (x1 : Int32) : Option (Unit × St) :=
  gd (x0).isSome <|
  (pI .int S x0 10 1 (0 : Int32)).bind fun S1 =>
  (pI .boolean S1 x0 10 2 (0 : Int32)).bind fun S2 =>
  if 0 ≤ x1 then
    gd (grc S2 x0 10) <|
    bn (n_J5_initWords S2 x0 x1) fun _ S3 =>
    (pI .boolean S3 x0 10 2 (1 : Int32)).bind fun S5 =>
    some ((), S5)
  else
    none
theorem w_J5_init_b0m {K : KT} {r : Unit} {S1 : St} (C : GC K RJ5 cJ5_init 2 4 []) (E : EL (kΓ K) (kHI K) (kl K)) (Q : GQ K none (.inl none) S1) (hnm : kLv K → (kme K).name = "<init>") : ∀ (S : St) (x0 : Option Nat) (x1 : Int32), n_J5_init S x0 x1 = some (r, S1) → G K 2 S 0 [(0, vR x0), (1, vI x1)] [] := by
  intro S x0 x1 hd
  unfold n_J5_init at hd
  refine g_aload_n C dJ5_init_0 rfl 0 rfl ?_
  obtain ⟨hg, hd⟩ := gd_some hd
  refine g_objInit C q212 q149 q150 (by decide) dJ5_init_1 hg (Nat.le_of_ble_eq_true rfl) ?_
  refine g_aload_n C dJ5_init_4 rfl 0 rfl ?_
  refine g_iconst (v := 0) C dJ5_init_5 (by decide) ?_
  obtain ⟨S1, hS1, hd⟩ := Option.bind_eq_some_iff.mp hd
  refine g_put C gk_J5 (k := 1) (by decide) q221 (Or.inl rfl) rfl dJ5_init_6 (gfit_ok (pI_v hS1).1).1 (gfit_ok (pI_v hS1).1).2 (pI_v hS1).2 ?_
  refine g_aload_n C dJ5_init_9 rfl 0 rfl ?_
  refine g_iconst (v := 0) C dJ5_init_10 (by decide) ?_
  obtain ⟨S2, hS2, hd⟩ := Option.bind_eq_some_iff.mp hd
  refine g_put C gk_J5 (k := 2) (by decide) q222 (Or.inl rfl) rfl dJ5_init_11 (gfit_ok (pI_v hS2).1).1 (gfit_ok (pI_v hS2).1).2 (pI_v hS2).2 ?_
  refine g_iload_n C dJ5_init_14 rfl 1 rfl ?_
  refine g_if_ge (tgt := 45) C dJ5_init_15 (by decide) hd (fun hd => ?_) (fun hd => ?_)
  · refine g_aload_n C dJ5_init_45 rfl 0 rfl ?_
    refine g_iload_n C dJ5_init_46 rfl 1 rfl ?_
    obtain ⟨hg, hd⟩ := gd_some hd
    obtain ⟨_, S3, hc, hd⟩ := bn_some hd
    refine g_cV_n (n := 1) C (gk_J5).1 q213 q215 qs0 q101 q216 (by decide +kernel) (by decide) (by decide) dJ5_init_47 (As := [vI x1]) (rest := []) rfl rfl (Nat.le_of_ble_eq_true rfl) hg (m_J5_initWords E hc) ?_
    refine g_aload_n C dJ5_init_50 rfl 0 rfl ?_
    refine g_iconst (v := 1) C dJ5_init_51 (by decide) ?_
    obtain ⟨S5, hS5, hd⟩ := Option.bind_eq_some_iff.mp hd
    refine g_put C gk_J5 (k := 2) (by decide) q222 (Or.inl rfl) rfl dJ5_init_52 (gfit_ok (pI_v hS5).1).1 (gfit_ok (pI_v hS5).1).2 (pI_v hS5).2 ?_
    exact g_vret C Q hd dJ5_init_55
  · cases hd
theorem m_J5_init {Γ : GG} {HI : St → Heap → Prop} {l : Launch} (E : EL Γ HI l) {S : St} {a0 : Option Nat} {a1 : Int32} {r : Unit} {S1 : St} (h : n_J5_init S a0 a1 = some (r, S1)) : MS Γ HI l yJ5_init cJ5_init 2 none 4 S [vR a0, vI a1] (.inl none) S1 := by
  refine MS_of E.ntr E.hx (by decide +kernel) rfl (Nat.le_of_ble_eq_true rfl) fun K e1 e2 e3 e4 hnm C Q => ?_
  subst e1; subst e2; subst e3
  exact w_J5_init_b0m C E Q (by exact hnm) S a0 a1 h

def n_J5_clear_b0 : Nat → St → Option Nat → Option (Unit × St)
  | 0 => fun _ _ => none
  | n + 1 => fun S x0 =>
    (gI S x0 10 1).bind fun v1 =>
    if v1 ≤ 0 then
      some ((), S)
    else
      (gR S x0 10 0).bind fun v2 =>
      (gI S x0 10 1).bind fun v3 =>
      (pI .int S x0 10 1 (v3 - (1 : Int32))).bind fun S4 =>
      (sL S4 v2 (v3 - (1 : Int32)) (0 : Int64)).bind fun S5 =>
      (n_J5_clear_b0 n) S5 x0
def n_J5_clear (S : St) (a0 : Option Nat) : Option (Unit × St) := n_J5_clear_b0 FU S a0
theorem w_J5_clear_b0 {K : KT} {r : Unit} {S1 : St} (C : GC K RJ5 cJ5_clear 1 2 []) (E : EL (kΓ K) (kHI K) (kl K)) (Q : GQ K none (.inl none) S1) : ∀ (n : Nat) (S : St) (x0 : Option Nat), n_J5_clear_b0 n S x0 = some (r, S1) → G K 1 S 0 [(0, vR x0)] [] := by
  intro n
  induction n with
  | zero => intro S x0 hd; cases hd
  | succ n ih =>
    intro S x0 hd
    unfold n_J5_clear_b0 at hd
    refine g_aload_n C dJ5_clear_0 rfl 0 rfl ?_
    obtain ⟨v1, hv1, hd⟩ := Option.bind_eq_some_iff.mp hd
    refine g_fld C gk_J5 (k := 1) (by decide) q221 (Or.inl rfl) dJ5_clear_1 (gI_v hv1) ?_
    refine g_if_le (tgt := 27) C dJ5_clear_4 (by decide) hd (fun hd => ?_) (fun hd => ?_)
    · exact g_vret C Q hd dJ5_clear_27
    · refine g_aload_n C dJ5_clear_7 rfl 0 rfl ?_
      obtain ⟨v2, hv2, hd⟩ := Option.bind_eq_some_iff.mp hd
      refine g_fld C gk_J5 (k := 0) (by decide) q220 (Or.inl rfl) dJ5_clear_8 (gR_v hv2) ?_
      refine g_aload_n C dJ5_clear_11 rfl 0 rfl ?_
      refine g_dup C dJ5_clear_12 rfl ?_
      obtain ⟨v3, hv3, hd⟩ := Option.bind_eq_some_iff.mp hd
      refine g_fld C gk_J5 (k := 1) (by decide) q221 (Or.inl rfl) dJ5_clear_13 (gI_v hv3) ?_
      refine g_iconst (v := 1) C dJ5_clear_16 (by decide) ?_
      refine g_isub C dJ5_clear_17 ?_
      refine g_dup_x1 C dJ5_clear_18 rfl rfl ?_
      obtain ⟨S4, hS4, hd⟩ := Option.bind_eq_some_iff.mp hd
      refine g_put C gk_J5 (k := 1) (by decide) q221 (Or.inl rfl) rfl dJ5_clear_19 (gfit_ok (pI_v hS4).1).1 (gfit_ok (pI_v hS4).1).2 (pI_v hS4).2 ?_
      refine g_lconst (v := 0) C dJ5_clear_22 (by decide) ?_
      obtain ⟨S5, hS5, hd⟩ := Option.bind_eq_some_iff.mp hd
      refine g_last C dJ5_clear_23 hS5 ?_
      refine g_goto (tgt := 0) C dJ5_clear_24 (by decide) ?_
      refine g_sub [0] rfl ?_
      exact ih _ _ hd
theorem m_J5_clear {Γ : GG} {HI : St → Heap → Prop} {l : Launch} (E : EL Γ HI l) {S : St} {a0 : Option Nat} {r : Unit} {S1 : St} (h : n_J5_clear S a0 = some (r, S1)) : MS Γ HI l yJ5_clear cJ5_clear 1 none 2 S [vR a0] (.inl none) S1 := by
  refine MS_of E.ntr E.hx (by decide +kernel) rfl (Nat.le_of_ble_eq_true rfl) fun K e1 e2 e3 e4 hnm C Q => ?_
  subst e1; subst e2; subst e3
  exact g_sub [0] rfl (w_J5_clear_b0 C E Q FU S a0 h)

def n_J5_ensureCapacity (S : St) (x0 : Option Nat) (x1 : Int32) : Option (Unit × St) :=
  (gR S x0 10 0).bind fun v1 =>
  (aLn S v1).bind fun v2 =>
  if x1 ≤ v2 then
    some ((), S)
  else
    (gR S x0 10 0).bind fun v3 =>
    (aLn S v3).bind fun v4 =>
    bn (n_J7_max S ((2 : Int32) * v4) x1) fun v6 S5 =>
    (gR S5 x0 10 0).bind fun v7 =>
    none
theorem w_J5_ensureCapacity_b0m {K : KT} {r : Unit} {S1 : St} (C : GC K RJ5 cJ5_ensureCapacity 3 3 []) (E : EL (kΓ K) (kHI K) (kl K)) (Q : GQ K none (.inl none) S1) : ∀ (S : St) (x0 : Option Nat) (x1 : Int32), n_J5_ensureCapacity S x0 x1 = some (r, S1) → G K 3 S 0 [(0, vR x0), (1, vI x1)] [] := by
  intro S x0 x1 hd
  unfold n_J5_ensureCapacity at hd
  refine g_aload_n C dJ5_ensureCapacity_0 rfl 0 rfl ?_
  obtain ⟨v1, hv1, hd⟩ := Option.bind_eq_some_iff.mp hd
  refine g_fld C gk_J5 (k := 0) (by decide) q220 (Or.inl rfl) dJ5_ensureCapacity_1 (gR_v hv1) ?_
  obtain ⟨v2, hv2, hd⟩ := Option.bind_eq_some_iff.mp hd
  refine g_alen C dJ5_ensureCapacity_4 hv2 ?_
  refine g_iload_n C dJ5_ensureCapacity_5 rfl 1 rfl ?_
  refine g_icmp_ge (tgt := 38) C dJ5_ensureCapacity_6 (by decide) hd (fun hd => ?_) (fun hd => ?_)
  · exact g_vret C Q hd dJ5_ensureCapacity_38
  · refine g_iconst (v := 2) C dJ5_ensureCapacity_9 (by decide) ?_
    refine g_aload_n C dJ5_ensureCapacity_10 rfl 0 rfl ?_
    obtain ⟨v3, hv3, hd⟩ := Option.bind_eq_some_iff.mp hd
    refine g_fld C gk_J5 (k := 0) (by decide) q220 (Or.inl rfl) dJ5_ensureCapacity_11 (gR_v hv3) ?_
    obtain ⟨v4, hv4, hd⟩ := Option.bind_eq_some_iff.mp hd
    refine g_alen C dJ5_ensureCapacity_14 hv4 ?_
    refine g_imul C dJ5_ensureCapacity_15 ?_
    refine g_iload_n C dJ5_ensureCapacity_16 rfl 1 rfl ?_
    obtain ⟨v6, S5, hc, hd⟩ := bn_some hd
    refine g_cS_v (n := 2) C q1767 q299 q104 q300 (by decide +kernel) (by decide) (by decide) dJ5_ensureCapacity_17 (As := [vI ((2 : Int32) * v4), vI x1]) (rest := []) rfl rfl (Nat.le_of_ble_eq_true rfl) (m_J7_max E hc) ?_
    refine g_istore_n (L' := [(2, vI v6), (0, vR x0), (1, vI x1)]) C dJ5_ensureCapacity_20 rfl (by decide) rfl ?_
    refine g_aload_n C dJ5_ensureCapacity_21 rfl 1 rfl ?_
    refine g_aload_n C dJ5_ensureCapacity_22 rfl 1 rfl ?_
    obtain ⟨v7, hv7, hd⟩ := Option.bind_eq_some_iff.mp hd
    refine g_fld C gk_J5 (k := 0) (by decide) q220 (Or.inl rfl) dJ5_ensureCapacity_23 (gR_v hv7) ?_
    refine g_iload_n C dJ5_ensureCapacity_26 rfl 0 rfl ?_
    cases hd
theorem m_J5_ensureCapacity {Γ : GG} {HI : St → Heap → Prop} {l : Launch} (E : EL Γ HI l) {S : St} {a0 : Option Nat} {a1 : Int32} {r : Unit} {S1 : St} (h : n_J5_ensureCapacity S a0 a1 = some (r, S1)) : MS Γ HI l yJ5_ensureCapacity cJ5_ensureCapacity 3 none 3 S [vR a0, vI a1] (.inl none) S1 := by
  refine MS_of E.ntr E.hx (by decide +kernel) rfl (Nat.le_of_ble_eq_true rfl) fun K e1 e2 e3 e4 hnm C Q => ?_
  subst e1; subst e2; subst e3
  exact w_J5_ensureCapacity_b0m C E Q S a0 a1 h

def n_J5_expandTo (S : St) (x0 : Option Nat) (x1 : Int32) : Option (Unit × St) :=
  (gI S x0 10 1).bind fun v1 =>
  if (x1 + (1 : Int32)) ≤ v1 then
    some ((), S)
  else
    gd (grc S x0 10) <|
    bn (n_J5_ensureCapacity S x0 (x1 + (1 : Int32))) fun _ S2 =>
    (pI .int S2 x0 10 1 (x1 + (1 : Int32))).bind fun S4 =>
    some ((), S4)
theorem w_J5_expandTo_b0m {K : KT} {r : Unit} {S1 : St} (C : GC K RJ5 cJ5_expandTo 3 4 []) (E : EL (kΓ K) (kHI K) (kl K)) (Q : GQ K none (.inl none) S1) : ∀ (S : St) (x0 : Option Nat) (x1 : Int32), n_J5_expandTo S x0 x1 = some (r, S1) → G K 3 S 0 [(0, vR x0), (1, vI x1)] [] := by
  intro S x0 x1 hd
  unfold n_J5_expandTo at hd
  refine g_iload_n C dJ5_expandTo_0 rfl 1 rfl ?_
  refine g_iconst (v := 1) C dJ5_expandTo_1 (by decide) ?_
  refine g_iadd C dJ5_expandTo_2 ?_
  refine g_istore_n (L' := [(2, vI (x1 + (1 : Int32))), (0, vR x0), (1, vI x1)]) C dJ5_expandTo_3 rfl (by decide) rfl ?_
  refine g_aload_n C dJ5_expandTo_4 rfl 1 rfl ?_
  obtain ⟨v1, hv1, hd⟩ := Option.bind_eq_some_iff.mp hd
  refine g_fld C gk_J5 (k := 1) (by decide) q221 (Or.inl rfl) dJ5_expandTo_5 (gI_v hv1) ?_
  refine g_iload_n C dJ5_expandTo_8 rfl 0 rfl ?_
  refine g_icmp_ge (tgt := 22) C dJ5_expandTo_9 (by decide) hd (fun hd => ?_) (fun hd => ?_)
  · exact g_vret C Q hd dJ5_expandTo_22
  · refine g_aload_n C dJ5_expandTo_12 rfl 1 rfl ?_
    refine g_iload_n C dJ5_expandTo_13 rfl 0 rfl ?_
    obtain ⟨hg, hd⟩ := gd_some hd
    obtain ⟨_, S2, hc, hd⟩ := bn_some hd
    refine g_cV_n (n := 1) C (gk_J5).1 q1763 q1765 qs43 q101 q1766 (by decide +kernel) (by decide) (by decide) dJ5_expandTo_14 (As := [vI (x1 + (1 : Int32))]) (rest := []) rfl rfl (Nat.le_of_ble_eq_true rfl) hg (m_J5_ensureCapacity E hc) ?_
    refine g_aload_n C dJ5_expandTo_17 rfl 1 rfl ?_
    refine g_iload_n C dJ5_expandTo_18 rfl 0 rfl ?_
    obtain ⟨S4, hS4, hd⟩ := Option.bind_eq_some_iff.mp hd
    refine g_put C gk_J5 (k := 1) (by decide) q221 (Or.inl rfl) rfl dJ5_expandTo_19 (gfit_ok (pI_v hS4).1).1 (gfit_ok (pI_v hS4).1).2 (pI_v hS4).2 ?_
    exact g_vret C Q hd dJ5_expandTo_22
theorem m_J5_expandTo {Γ : GG} {HI : St → Heap → Prop} {l : Launch} (E : EL Γ HI l) {S : St} {a0 : Option Nat} {a1 : Int32} {r : Unit} {S1 : St} (h : n_J5_expandTo S a0 a1 = some (r, S1)) : MS Γ HI l yJ5_expandTo cJ5_expandTo 3 none 4 S [vR a0, vI a1] (.inl none) S1 := by
  refine MS_of E.ntr E.hx (by decide +kernel) rfl (Nat.le_of_ble_eq_true rfl) fun K e1 e2 e3 e4 hnm C Q => ?_
  subst e1; subst e2; subst e3
  exact w_J5_expandTo_b0m C E Q S a0 a1 h

def n_J5_checkInvariants_b70 (S : St) (x0 : Option Nat) : Option (Unit × St) :=
  if (1 : Int32) = 0 then
    (gI S x0 10 1).bind fun v1 =>
    (gR S x0 10 0).bind fun v2 =>
    (aLn S v2).bind fun v3 =>
    if v1 = v3 then
      some ((), S)
    else
      (gR S x0 10 0).bind fun v4 =>
      (gI S x0 10 1).bind fun v5 =>
      (aL S v4 3 v5).bind fun v6 =>
      if (gcmp v6 (0 : Int64)) = 0 then
        some ((), S)
      else
        none
  else
    some ((), S)
def n_J5_checkInvariants_b37 (S : St) (x0 : Option Nat) : Option (Unit × St) :=
  if (1 : Int32) = 0 then
    (gI S x0 10 1).bind fun v1 =>
    if v1 < 0 then
      none
    else
      (gI S x0 10 1).bind fun v2 =>
      (gR S x0 10 0).bind fun v3 =>
      (aLn S v3).bind fun v4 =>
      if v2 ≤ v4 then
        n_J5_checkInvariants_b70 S x0
      else
        none
  else
    n_J5_checkInvariants_b70 S x0
def n_J5_checkInvariants (S : St) (x0 : Option Nat) : Option (Unit × St) :=
  if (1 : Int32) = 0 then
    (gI S x0 10 1).bind fun v1 =>
    if v1 = 0 then
      n_J5_checkInvariants_b37 S x0
    else
      (gR S x0 10 0).bind fun v2 =>
      (gI S x0 10 1).bind fun v3 =>
      (aL S v2 3 (v3 - (1 : Int32))).bind fun v4 =>
      if (gcmp v4 (0 : Int64)) = 0 then
        none
      else
        n_J5_checkInvariants_b37 S x0
  else
    n_J5_checkInvariants_b37 S x0
theorem w_J5_checkInvariants_b70 {K : KT} {r : Unit} {S1 : St} (C : GC K RJ5 cJ5_checkInvariants 1 2 []) (E : EL (kΓ K) (kHI K) (kl K)) (Q : GQ K none (.inl none) S1) : ∀ (S : St) (x0 : Option Nat), n_J5_checkInvariants_b70 S x0 = some (r, S1) → G K 1 S 70 [(0, vR x0)] [] := by
  intro S x0 hd
  unfold n_J5_checkInvariants_b70 at hd
  refine g_getsI C (fun lv => (C lv).hk.2.2.2.2.1.2.1) q1780 rfl dJ5_checkInvariants_70 ?_
  refine g_if_ne (tgt := 110) C dJ5_checkInvariants_73 (by decide) hd (fun hd => ?_) (fun hd => ?_)
  · exact g_vret C Q hd dJ5_checkInvariants_110
  · refine g_aload_n C dJ5_checkInvariants_76 rfl 0 rfl ?_
    obtain ⟨v1, hv1, hd⟩ := Option.bind_eq_some_iff.mp hd
    refine g_fld C gk_J5 (k := 1) (by decide) q221 (Or.inl rfl) dJ5_checkInvariants_77 (gI_v hv1) ?_
    refine g_aload_n C dJ5_checkInvariants_80 rfl 0 rfl ?_
    obtain ⟨v2, hv2, hd⟩ := Option.bind_eq_some_iff.mp hd
    refine g_fld C gk_J5 (k := 0) (by decide) q220 (Or.inl rfl) dJ5_checkInvariants_81 (gR_v hv2) ?_
    obtain ⟨v3, hv3, hd⟩ := Option.bind_eq_some_iff.mp hd
    refine g_alen C dJ5_checkInvariants_84 hv3 ?_
    refine g_icmp_eq (tgt := 110) C dJ5_checkInvariants_85 (by decide) hd (fun hd => ?_) (fun hd => ?_)
    · exact g_vret C Q hd dJ5_checkInvariants_110
    · refine g_aload_n C dJ5_checkInvariants_88 rfl 0 rfl ?_
      obtain ⟨v4, hv4, hd⟩ := Option.bind_eq_some_iff.mp hd
      refine g_fld C gk_J5 (k := 0) (by decide) q220 (Or.inl rfl) dJ5_checkInvariants_89 (gR_v hv4) ?_
      refine g_aload_n C dJ5_checkInvariants_92 rfl 0 rfl ?_
      obtain ⟨v5, hv5, hd⟩ := Option.bind_eq_some_iff.mp hd
      refine g_fld C gk_J5 (k := 1) (by decide) q221 (Or.inl rfl) dJ5_checkInvariants_93 (gI_v hv5) ?_
      obtain ⟨v6, hv6, hd⟩ := Option.bind_eq_some_iff.mp hd
      refine g_lald C dJ5_checkInvariants_96 hv6 ?_
      refine g_lconst (v := 0) C dJ5_checkInvariants_97 (by decide) ?_
      refine g_lcmp C dJ5_checkInvariants_98 ?_
      refine g_if_eq (tgt := 110) C dJ5_checkInvariants_99 (by decide) hd (fun hd => ?_) (fun hd => ?_)
      · exact g_vret C Q hd dJ5_checkInvariants_110
      · cases hd
theorem w_J5_checkInvariants_b37 {K : KT} {r : Unit} {S1 : St} (C : GC K RJ5 cJ5_checkInvariants 1 2 []) (E : EL (kΓ K) (kHI K) (kl K)) (Q : GQ K none (.inl none) S1) : ∀ (S : St) (x0 : Option Nat), n_J5_checkInvariants_b37 S x0 = some (r, S1) → G K 1 S 37 [(0, vR x0)] [] := by
  intro S x0 hd
  unfold n_J5_checkInvariants_b37 at hd
  refine g_getsI C (fun lv => (C lv).hk.2.2.2.2.1.2.1) q1780 rfl dJ5_checkInvariants_37 ?_
  refine g_if_ne (tgt := 70) C dJ5_checkInvariants_40 (by decide) hd (fun hd => ?_) (fun hd => ?_)
  · refine g_sub [0] rfl ?_
    exact w_J5_checkInvariants_b70 C E Q _ _ hd
  · refine g_aload_n C dJ5_checkInvariants_43 rfl 0 rfl ?_
    obtain ⟨v1, hv1, hd⟩ := Option.bind_eq_some_iff.mp hd
    refine g_fld C gk_J5 (k := 1) (by decide) q221 (Or.inl rfl) dJ5_checkInvariants_44 (gI_v hv1) ?_
    refine g_if_lt (tgt := 62) C dJ5_checkInvariants_47 (by decide) hd (fun hd => ?_) (fun hd => ?_)
    · cases hd
    · refine g_aload_n C dJ5_checkInvariants_50 rfl 0 rfl ?_
      obtain ⟨v2, hv2, hd⟩ := Option.bind_eq_some_iff.mp hd
      refine g_fld C gk_J5 (k := 1) (by decide) q221 (Or.inl rfl) dJ5_checkInvariants_51 (gI_v hv2) ?_
      refine g_aload_n C dJ5_checkInvariants_54 rfl 0 rfl ?_
      obtain ⟨v3, hv3, hd⟩ := Option.bind_eq_some_iff.mp hd
      refine g_fld C gk_J5 (k := 0) (by decide) q220 (Or.inl rfl) dJ5_checkInvariants_55 (gR_v hv3) ?_
      obtain ⟨v4, hv4, hd⟩ := Option.bind_eq_some_iff.mp hd
      refine g_alen C dJ5_checkInvariants_58 hv4 ?_
      refine g_icmp_le (tgt := 70) C dJ5_checkInvariants_59 (by decide) hd (fun hd => ?_) (fun hd => ?_)
      · refine g_sub [0] rfl ?_
        exact w_J5_checkInvariants_b70 C E Q _ _ hd
      · cases hd
theorem w_J5_checkInvariants_b0m {K : KT} {r : Unit} {S1 : St} (C : GC K RJ5 cJ5_checkInvariants 1 2 []) (E : EL (kΓ K) (kHI K) (kl K)) (Q : GQ K none (.inl none) S1) : ∀ (S : St) (x0 : Option Nat), n_J5_checkInvariants S x0 = some (r, S1) → G K 1 S 0 [(0, vR x0)] [] := by
  intro S x0 hd
  unfold n_J5_checkInvariants at hd
  refine g_getsI C (fun lv => (C lv).hk.2.2.2.2.1.2.1) q1780 rfl dJ5_checkInvariants_0 ?_
  refine g_if_ne (tgt := 37) C dJ5_checkInvariants_3 (by decide) hd (fun hd => ?_) (fun hd => ?_)
  · refine g_sub [0] rfl ?_
    exact w_J5_checkInvariants_b37 C E Q _ _ hd
  · refine g_aload_n C dJ5_checkInvariants_6 rfl 0 rfl ?_
    obtain ⟨v1, hv1, hd⟩ := Option.bind_eq_some_iff.mp hd
    refine g_fld C gk_J5 (k := 1) (by decide) q221 (Or.inl rfl) dJ5_checkInvariants_7 (gI_v hv1) ?_
    refine g_if_eq (tgt := 37) C dJ5_checkInvariants_10 (by decide) hd (fun hd => ?_) (fun hd => ?_)
    · refine g_sub [0] rfl ?_
      exact w_J5_checkInvariants_b37 C E Q _ _ hd
    · refine g_aload_n C dJ5_checkInvariants_13 rfl 0 rfl ?_
      obtain ⟨v2, hv2, hd⟩ := Option.bind_eq_some_iff.mp hd
      refine g_fld C gk_J5 (k := 0) (by decide) q220 (Or.inl rfl) dJ5_checkInvariants_14 (gR_v hv2) ?_
      refine g_aload_n C dJ5_checkInvariants_17 rfl 0 rfl ?_
      obtain ⟨v3, hv3, hd⟩ := Option.bind_eq_some_iff.mp hd
      refine g_fld C gk_J5 (k := 1) (by decide) q221 (Or.inl rfl) dJ5_checkInvariants_18 (gI_v hv3) ?_
      refine g_iconst (v := 1) C dJ5_checkInvariants_21 (by decide) ?_
      refine g_isub C dJ5_checkInvariants_22 ?_
      obtain ⟨v4, hv4, hd⟩ := Option.bind_eq_some_iff.mp hd
      refine g_lald C dJ5_checkInvariants_23 hv4 ?_
      refine g_lconst (v := 0) C dJ5_checkInvariants_24 (by decide) ?_
      refine g_lcmp C dJ5_checkInvariants_25 ?_
      refine g_if_ne (tgt := 37) C dJ5_checkInvariants_26 (by decide) hd (fun hd => ?_) (fun hd => ?_)
      · refine g_sub [0] rfl ?_
        exact w_J5_checkInvariants_b37 C E Q _ _ hd
      · cases hd
theorem m_J5_checkInvariants {Γ : GG} {HI : St → Heap → Prop} {l : Launch} (E : EL Γ HI l) {S : St} {a0 : Option Nat} {r : Unit} {S1 : St} (h : n_J5_checkInvariants S a0 = some (r, S1)) : MS Γ HI l yJ5_checkInvariants cJ5_checkInvariants 1 none 2 S [vR a0] (.inl none) S1 := by
  refine MS_of E.ntr E.hx (by decide +kernel) rfl (Nat.le_of_ble_eq_true rfl) fun K e1 e2 e3 e4 hnm C Q => ?_
  subst e1; subst e2; subst e3
  exact w_J5_checkInvariants_b0m C E Q S a0 h

def n_J5_set (S : St) (x0 : Option Nat) (x1 : Int32) : Option (Unit × St) :=
  if 0 ≤ x1 then
    bn (n_J5_wordIndex S x1) fun v2 S1 =>
    gd (grc S1 x0 10) <|
    bn (n_J5_expandTo S1 x0 v2) fun _ S3 =>
    (gR S3 x0 10 0).bind fun v5 =>
    (aL S3 v5 3 v2).bind fun v6 =>
    (sL S3 v5 v2 (v6 ||| ((1 : Int64) <<< (x1.toInt64 &&& 63)))).bind fun S7 =>
    gd (grc S7 x0 10) <|
    bn (n_J5_checkInvariants S7 x0) fun _ S8 =>
    some ((), S8)
  else
    none
theorem w_J5_set_b0m {K : KT} {r : Unit} {S1 : St} (C : GC K RJ5 cJ5_set 3 5 []) (E : EL (kΓ K) (kHI K) (kl K)) (Q : GQ K none (.inl none) S1) : ∀ (S : St) (x0 : Option Nat) (x1 : Int32), n_J5_set S x0 x1 = some (r, S1) → G K 3 S 0 [(0, vR x0), (1, vI x1)] [] := by
  intro S x0 x1 hd
  unfold n_J5_set at hd
  refine g_iload_n C dJ5_set_0 rfl 1 rfl ?_
  refine g_if_ge (tgt := 31) C dJ5_set_1 (by decide) hd (fun hd => ?_) (fun hd => ?_)
  · refine g_iload_n C dJ5_set_31 rfl 1 rfl ?_
    obtain ⟨v2, S1, hc, hd⟩ := bn_some hd
    refine g_cS_v (n := 1) C q217 q218 q101 q219 (by decide +kernel) (by decide) (by decide) dJ5_set_32 (As := [vI x1]) (rest := []) rfl rfl (Nat.le_of_ble_eq_true rfl) (m_J5_wordIndex E hc) ?_
    refine g_istore_n (L' := [(2, vI v2), (0, vR x0), (1, vI x1)]) C dJ5_set_35 rfl (by decide) rfl ?_
    refine g_aload_n C dJ5_set_36 rfl 1 rfl ?_
    refine g_iload_n C dJ5_set_37 rfl 0 rfl ?_
    obtain ⟨hg, hd⟩ := gd_some hd
    obtain ⟨_, S3, hc, hd⟩ := bn_some hd
    refine g_cV_n (n := 1) C (gk_J5).1 q1759 q1761 qs42 q101 q1762 (by decide +kernel) (by decide) (by decide) dJ5_set_38 (As := [vI v2]) (rest := []) rfl rfl (Nat.le_of_ble_eq_true rfl) hg (m_J5_expandTo E hc) ?_
    refine g_aload_n C dJ5_set_41 rfl 1 rfl ?_
    obtain ⟨v5, hv5, hd⟩ := Option.bind_eq_some_iff.mp hd
    refine g_fld C gk_J5 (k := 0) (by decide) q220 (Or.inl rfl) dJ5_set_42 (gR_v hv5) ?_
    refine g_iload_n C dJ5_set_45 rfl 0 rfl ?_
    refine g_dup2 C dJ5_set_46 rfl rfl ?_
    obtain ⟨v6, hv6, hd⟩ := Option.bind_eq_some_iff.mp hd
    refine g_lald C dJ5_set_47 hv6 ?_
    refine g_lconst (v := 1) C dJ5_set_48 (by decide) ?_
    refine g_iload_n C dJ5_set_49 rfl 2 rfl ?_
    refine g_lshl C dJ5_set_50 ?_
    refine g_lor C dJ5_set_51 ?_
    obtain ⟨S7, hS7, hd⟩ := Option.bind_eq_some_iff.mp hd
    refine g_last C dJ5_set_52 hS7 ?_
    refine g_aload_n C dJ5_set_53 rfl 1 rfl ?_
    obtain ⟨hg, hd⟩ := gd_some hd
    obtain ⟨_, S8, hc, hd⟩ := bn_some hd
    refine g_cV_n (n := 0) C (gk_J5).1 q1776 q1778 qs44 q101 q1779 (by decide +kernel) (by decide) (by decide) dJ5_set_54 (As := []) (rest := []) rfl rfl (Nat.le_of_ble_eq_true rfl) hg (m_J5_checkInvariants E hc) ?_
    exact g_vret C Q hd dJ5_set_57
  · cases hd
theorem m_J5_set {Γ : GG} {HI : St → Heap → Prop} {l : Launch} (E : EL Γ HI l) {S : St} {a0 : Option Nat} {a1 : Int32} {r : Unit} {S1 : St} (h : n_J5_set S a0 a1 = some (r, S1)) : MS Γ HI l yJ5_set cJ5_set 3 none 5 S [vR a0, vI a1] (.inl none) S1 := by
  refine MS_of E.ntr E.hx (by decide +kernel) rfl (Nat.le_of_ble_eq_true rfl) fun K e1 e2 e3 e4 hnm C Q => ?_
  subst e1; subst e2; subst e3
  exact w_J5_set_b0m C E Q S a0 a1 h

def n_J5_get (S : St) (x0 : Option Nat) (x1 : Int32) : Option (Int32 × St) :=
  if 0 ≤ x1 then
    gd (grc S x0 10) <|
    bn (n_J5_checkInvariants S x0) fun _ S1 =>
    bn (n_J5_wordIndex S1 x1) fun v4 S3 =>
    (gI S3 x0 10 1).bind fun v5 =>
    if v5 ≤ v4 then
      rtI id (Jvm.ClassFile.FieldType.boolean) (0 : Int32) S3
    else
      (gR S3 x0 10 0).bind fun v6 =>
      (aL S3 v6 3 v4).bind fun v7 =>
      if (gcmp (v7 &&& ((1 : Int64) <<< (x1.toInt64 &&& 63))) (0 : Int64)) = 0 then
        rtI id (Jvm.ClassFile.FieldType.boolean) (0 : Int32) S3
      else
        rtI id (Jvm.ClassFile.FieldType.boolean) (1 : Int32) S3
  else
    none
theorem w_J5_get_b0m {K : KT} {r : Int32} {S1 : St} (C : GC K RJ5 cJ5_get 3 3 []) (E : EL (kΓ K) (kHI K) (kl K)) (Q : GQ K (some (Jvm.ClassFile.FieldType.boolean)) (.inl (some (vI r))) S1) : ∀ (S : St) (x0 : Option Nat) (x1 : Int32), n_J5_get S x0 x1 = some (r, S1) → G K 3 S 0 [(0, vR x0), (1, vI x1)] [] := by
  intro S x0 x1 hd
  unfold n_J5_get at hd
  refine g_iload_n C dJ5_get_0 rfl 1 rfl ?_
  refine g_if_ge (tgt := 31) C dJ5_get_1 (by decide) hd (fun hd => ?_) (fun hd => ?_)
  · refine g_aload_n C dJ5_get_31 rfl 0 rfl ?_
    obtain ⟨hg, hd⟩ := gd_some hd
    obtain ⟨_, S1, hc, hd⟩ := bn_some hd
    refine g_cV_n (n := 0) C (gk_J5).1 q1776 q1778 qs44 q101 q1779 (by decide +kernel) (by decide) (by decide) dJ5_get_32 (As := []) (rest := []) rfl rfl (Nat.le_of_ble_eq_true rfl) hg (m_J5_checkInvariants E hc) ?_
    refine g_iload_n C dJ5_get_35 rfl 1 rfl ?_
    obtain ⟨v4, S3, hc, hd⟩ := bn_some hd
    refine g_cS_v (n := 1) C q217 q218 q101 q219 (by decide +kernel) (by decide) (by decide) dJ5_get_36 (As := [vI x1]) (rest := []) rfl rfl (Nat.le_of_ble_eq_true rfl) (m_J5_wordIndex E hc) ?_
    refine g_istore_n (L' := [(2, vI v4), (0, vR x0), (1, vI x1)]) C dJ5_get_39 rfl (by decide) rfl ?_
    refine g_iload_n C dJ5_get_40 rfl 0 rfl ?_
    refine g_aload_n C dJ5_get_41 rfl 1 rfl ?_
    obtain ⟨v5, hv5, hd⟩ := Option.bind_eq_some_iff.mp hd
    refine g_fld C gk_J5 (k := 1) (by decide) q221 (Or.inl rfl) dJ5_get_42 (gI_v hv5) ?_
    refine g_icmp_ge (tgt := 67) C dJ5_get_45 (by decide) hd (fun hd => ?_) (fun hd => ?_)
    · refine g_iconst (v := 0) C dJ5_get_67 (by decide) ?_
      exact g_iret C Q hd dJ5_get_68
    · refine g_aload_n C dJ5_get_48 rfl 1 rfl ?_
      obtain ⟨v6, hv6, hd⟩ := Option.bind_eq_some_iff.mp hd
      refine g_fld C gk_J5 (k := 0) (by decide) q220 (Or.inl rfl) dJ5_get_49 (gR_v hv6) ?_
      refine g_iload_n C dJ5_get_52 rfl 0 rfl ?_
      obtain ⟨v7, hv7, hd⟩ := Option.bind_eq_some_iff.mp hd
      refine g_lald C dJ5_get_53 hv7 ?_
      refine g_lconst (v := 1) C dJ5_get_54 (by decide) ?_
      refine g_iload_n C dJ5_get_55 rfl 2 rfl ?_
      refine g_lshl C dJ5_get_56 ?_
      refine g_land C dJ5_get_57 ?_
      refine g_lconst (v := 0) C dJ5_get_58 (by decide) ?_
      refine g_lcmp C dJ5_get_59 ?_
      refine g_if_eq (tgt := 67) C dJ5_get_60 (by decide) hd (fun hd => ?_) (fun hd => ?_)
      · refine g_iconst (v := 0) C dJ5_get_67 (by decide) ?_
        exact g_iret C Q hd dJ5_get_68
      · refine g_iconst (v := 1) C dJ5_get_63 (by decide) ?_
        refine g_goto (tgt := 68) C dJ5_get_64 (by decide) ?_
        exact g_iret C Q hd dJ5_get_68
  · cases hd
theorem m_J5_get {Γ : GG} {HI : St → Heap → Prop} {l : Launch} (E : EL Γ HI l) {S : St} {a0 : Option Nat} {a1 : Int32} {r : Int32} {S1 : St} (h : n_J5_get S a0 a1 = some (r, S1)) : MS Γ HI l yJ5_get cJ5_get 3 (some (Jvm.ClassFile.FieldType.boolean)) 3 S [vR a0, vI a1] (.inl (some (vI r))) S1 := by
  refine MS_of E.ntr E.hx (by decide +kernel) rfl (Nat.le_of_ble_eq_true rfl) fun K e1 e2 e3 e4 hnm C Q => ?_
  subst e1; subst e2; subst e3
  exact w_J5_get_b0m C E Q S a0 a1 h

def n_J23_numberOfTrailingZeros_b74 (S : St) (x0 : Int32) (x1 : Int32) : Option (Int32 × St) :=
  rtI id (Jvm.ClassFile.FieldType.int) (x1 + ((x0.toUInt32 >>> ((1 : Int32).toUInt32 &&& Int32.toUInt32 31)).toInt32)) S
def n_J23_numberOfTrailingZeros_b62 (S : St) (x0 : Int32) (x1 : Int32) : Option (Int32 × St) :=
  if x0 ≤ (4 : Int32) then
    n_J23_numberOfTrailingZeros_b74 S x0 x1
  else
    n_J23_numberOfTrailingZeros_b74 S ((x0.toUInt32 >>> ((2 : Int32).toUInt32 &&& Int32.toUInt32 31)).toInt32) (x1 + 2)
def n_J23_numberOfTrailingZeros_b49 (S : St) (x0 : Int32) (x1 : Int32) : Option (Int32 × St) :=
  if x0 ≤ (16 : Int32) then
    n_J23_numberOfTrailingZeros_b62 S x0 x1
  else
    n_J23_numberOfTrailingZeros_b62 S ((x0.toUInt32 >>> ((4 : Int32).toUInt32 &&& Int32.toUInt32 31)).toInt32) (x1 + 4)
def n_J23_numberOfTrailingZeros_b34 (S : St) (x0 : Int32) (x1 : Int32) : Option (Int32 × St) :=
  if x0 ≤ (256 : Int32) then
    n_J23_numberOfTrailingZeros_b49 S x0 x1
  else
    n_J23_numberOfTrailingZeros_b49 S ((x0.toUInt32 >>> ((8 : Int32).toUInt32 &&& Int32.toUInt32 31)).toInt32) (x1 + 8)
def n_J23_numberOfTrailingZeros (S : St) (x0 : Int32) : Option (Int32 × St) :=
  if 0 < ((x0 ^^^ (-1 : Int32)) &&& (x0 - (1 : Int32))) then
    if ((x0 ^^^ (-1 : Int32)) &&& (x0 - (1 : Int32))) ≤ (65536 : Int32) then
      n_J23_numberOfTrailingZeros_b34 S ((x0 ^^^ (-1 : Int32)) &&& (x0 - (1 : Int32))) (1 : Int32)
    else
      n_J23_numberOfTrailingZeros_b34 S ((((x0 ^^^ (-1 : Int32)) &&& (x0 - (1 : Int32))).toUInt32 >>> ((16 : Int32).toUInt32 &&& Int32.toUInt32 31)).toInt32) ((1 : Int32) + 16)
  else
    rtI id (Jvm.ClassFile.FieldType.int) (((x0 ^^^ (-1 : Int32)) &&& (x0 - (1 : Int32))) &&& (32 : Int32)) S
theorem w_J23_numberOfTrailingZeros_b74 {K : KT} {r : Int32} {S1 : St} (C : GC K RJ23 cJ23_numberOfTrailingZeros 2 2 []) (E : EL (kΓ K) (kHI K) (kl K)) (Q : GQ K (some (Jvm.ClassFile.FieldType.int)) (.inl (some (vI r))) S1) : ∀ (S : St) (x0 : Int32) (x1 : Int32), n_J23_numberOfTrailingZeros_b74 S x0 x1 = some (r, S1) → G K 2 S 74 [(0, vI x0), (1, vI x1)] [] := by
  intro S x0 x1 hd
  unfold n_J23_numberOfTrailingZeros_b74 at hd
  refine g_iload_n C dJ23_numberOfTrailingZeros_74 rfl 1 rfl ?_
  refine g_iload_n C dJ23_numberOfTrailingZeros_75 rfl 0 rfl ?_
  refine g_iconst (v := 1) C dJ23_numberOfTrailingZeros_76 (by decide) ?_
  refine g_iushr C dJ23_numberOfTrailingZeros_77 ?_
  refine g_iadd C dJ23_numberOfTrailingZeros_78 ?_
  exact g_iret C Q hd dJ23_numberOfTrailingZeros_79
theorem w_J23_numberOfTrailingZeros_b62 {K : KT} {r : Int32} {S1 : St} (C : GC K RJ23 cJ23_numberOfTrailingZeros 2 2 []) (E : EL (kΓ K) (kHI K) (kl K)) (Q : GQ K (some (Jvm.ClassFile.FieldType.int)) (.inl (some (vI r))) S1) : ∀ (S : St) (x0 : Int32) (x1 : Int32), n_J23_numberOfTrailingZeros_b62 S x0 x1 = some (r, S1) → G K 2 S 62 [(0, vI x0), (1, vI x1)] [] := by
  intro S x0 x1 hd
  unfold n_J23_numberOfTrailingZeros_b62 at hd
  refine g_iload_n C dJ23_numberOfTrailingZeros_62 rfl 0 rfl ?_
  refine g_iconst (v := 4) C dJ23_numberOfTrailingZeros_63 (by decide) ?_
  refine g_icmp_le (tgt := 74) C dJ23_numberOfTrailingZeros_64 (by decide) hd (fun hd => ?_) (fun hd => ?_)
  · refine g_sub [0, 1] rfl ?_
    exact w_J23_numberOfTrailingZeros_b74 C E Q _ _ _ hd
  · refine g_iinc (v := x1 + 2) (L' := [(1, vI (x1 + 2)), (0, vI x0)]) C dJ23_numberOfTrailingZeros_67 1 rfl rfl (by decide) rfl ?_
    refine g_iload_n C dJ23_numberOfTrailingZeros_70 rfl 1 rfl ?_
    refine g_iconst (v := 2) C dJ23_numberOfTrailingZeros_71 (by decide) ?_
    refine g_iushr C dJ23_numberOfTrailingZeros_72 ?_
    refine g_istore_n (L' := [(0, vI ((x0.toUInt32 >>> ((2 : Int32).toUInt32 &&& Int32.toUInt32 31)).toInt32)), (1, vI (x1 + 2))]) C dJ23_numberOfTrailingZeros_73 rfl (by decide) rfl ?_
    refine g_sub [0, 1] rfl ?_
    exact w_J23_numberOfTrailingZeros_b74 C E Q _ _ _ hd
theorem w_J23_numberOfTrailingZeros_b49 {K : KT} {r : Int32} {S1 : St} (C : GC K RJ23 cJ23_numberOfTrailingZeros 2 2 []) (E : EL (kΓ K) (kHI K) (kl K)) (Q : GQ K (some (Jvm.ClassFile.FieldType.int)) (.inl (some (vI r))) S1) : ∀ (S : St) (x0 : Int32) (x1 : Int32), n_J23_numberOfTrailingZeros_b49 S x0 x1 = some (r, S1) → G K 2 S 49 [(0, vI x0), (1, vI x1)] [] := by
  intro S x0 x1 hd
  unfold n_J23_numberOfTrailingZeros_b49 at hd
  refine g_iload_n C dJ23_numberOfTrailingZeros_49 rfl 0 rfl ?_
  refine g_bipush (v := 16) C dJ23_numberOfTrailingZeros_50 (by decide) ?_
  refine g_icmp_le (tgt := 62) C dJ23_numberOfTrailingZeros_52 (by decide) hd (fun hd => ?_) (fun hd => ?_)
  · refine g_sub [0, 1] rfl ?_
    exact w_J23_numberOfTrailingZeros_b62 C E Q _ _ _ hd
  · refine g_iinc (v := x1 + 4) (L' := [(1, vI (x1 + 4)), (0, vI x0)]) C dJ23_numberOfTrailingZeros_55 1 rfl rfl (by decide) rfl ?_
    refine g_iload_n C dJ23_numberOfTrailingZeros_58 rfl 1 rfl ?_
    refine g_iconst (v := 4) C dJ23_numberOfTrailingZeros_59 (by decide) ?_
    refine g_iushr C dJ23_numberOfTrailingZeros_60 ?_
    refine g_istore_n (L' := [(0, vI ((x0.toUInt32 >>> ((4 : Int32).toUInt32 &&& Int32.toUInt32 31)).toInt32)), (1, vI (x1 + 4))]) C dJ23_numberOfTrailingZeros_61 rfl (by decide) rfl ?_
    refine g_sub [0, 1] rfl ?_
    exact w_J23_numberOfTrailingZeros_b62 C E Q _ _ _ hd
theorem w_J23_numberOfTrailingZeros_b34 {K : KT} {r : Int32} {S1 : St} (C : GC K RJ23 cJ23_numberOfTrailingZeros 2 2 []) (E : EL (kΓ K) (kHI K) (kl K)) (Q : GQ K (some (Jvm.ClassFile.FieldType.int)) (.inl (some (vI r))) S1) : ∀ (S : St) (x0 : Int32) (x1 : Int32), n_J23_numberOfTrailingZeros_b34 S x0 x1 = some (r, S1) → G K 2 S 34 [(0, vI x0), (1, vI x1)] [] := by
  intro S x0 x1 hd
  unfold n_J23_numberOfTrailingZeros_b34 at hd
  refine g_iload_n C dJ23_numberOfTrailingZeros_34 rfl 0 rfl ?_
  refine g_sipush (v := 256) C dJ23_numberOfTrailingZeros_35 (by decide) ?_
  refine g_icmp_le (tgt := 49) C dJ23_numberOfTrailingZeros_38 (by decide) hd (fun hd => ?_) (fun hd => ?_)
  · refine g_sub [0, 1] rfl ?_
    exact w_J23_numberOfTrailingZeros_b49 C E Q _ _ _ hd
  · refine g_iinc (v := x1 + 8) (L' := [(1, vI (x1 + 8)), (0, vI x0)]) C dJ23_numberOfTrailingZeros_41 1 rfl rfl (by decide) rfl ?_
    refine g_iload_n C dJ23_numberOfTrailingZeros_44 rfl 1 rfl ?_
    refine g_bipush (v := 8) C dJ23_numberOfTrailingZeros_45 (by decide) ?_
    refine g_iushr C dJ23_numberOfTrailingZeros_47 ?_
    refine g_istore_n (L' := [(0, vI ((x0.toUInt32 >>> ((8 : Int32).toUInt32 &&& Int32.toUInt32 31)).toInt32)), (1, vI (x1 + 8))]) C dJ23_numberOfTrailingZeros_48 rfl (by decide) rfl ?_
    refine g_sub [0, 1] rfl ?_
    exact w_J23_numberOfTrailingZeros_b49 C E Q _ _ _ hd
theorem w_J23_numberOfTrailingZeros_b0m {K : KT} {r : Int32} {S1 : St} (C : GC K RJ23 cJ23_numberOfTrailingZeros 2 2 []) (E : EL (kΓ K) (kHI K) (kl K)) (Q : GQ K (some (Jvm.ClassFile.FieldType.int)) (.inl (some (vI r))) S1) : ∀ (S : St) (x0 : Int32), n_J23_numberOfTrailingZeros S x0 = some (r, S1) → G K 2 S 0 [(0, vI x0)] [] := by
  intro S x0 hd
  unfold n_J23_numberOfTrailingZeros at hd
  refine g_iload_n C dJ23_numberOfTrailingZeros_0 rfl 0 rfl ?_
  refine g_iconst (v := (-1)) C dJ23_numberOfTrailingZeros_1 (by decide) ?_
  refine g_ixor C dJ23_numberOfTrailingZeros_2 ?_
  refine g_iload_n C dJ23_numberOfTrailingZeros_3 rfl 0 rfl ?_
  refine g_iconst (v := 1) C dJ23_numberOfTrailingZeros_4 (by decide) ?_
  refine g_isub C dJ23_numberOfTrailingZeros_5 ?_
  refine g_iand C dJ23_numberOfTrailingZeros_6 ?_
  refine g_istore_n (L' := [(0, vI ((x0 ^^^ (-1 : Int32)) &&& (x0 - (1 : Int32))))]) C dJ23_numberOfTrailingZeros_7 rfl (by decide) rfl ?_
  refine g_iload_n C dJ23_numberOfTrailingZeros_8 rfl 0 rfl ?_
  refine g_if_gt (tgt := 17) C dJ23_numberOfTrailingZeros_9 (by decide) hd (fun hd => ?_) (fun hd => ?_)
  · refine g_iconst (v := 1) C dJ23_numberOfTrailingZeros_17 (by decide) ?_
    refine g_istore_n (L' := [(1, vI (1 : Int32)), (0, vI ((x0 ^^^ (-1 : Int32)) &&& (x0 - (1 : Int32))))]) C dJ23_numberOfTrailingZeros_18 rfl (by decide) rfl ?_
    refine g_iload_n C dJ23_numberOfTrailingZeros_19 rfl 1 rfl ?_
    refine g_ldcw C q1843 dJ23_numberOfTrailingZeros_20 ?_
    refine g_icmp_le (tgt := 34) C dJ23_numberOfTrailingZeros_23 (by decide) hd (fun hd => ?_) (fun hd => ?_)
    · refine g_sub [1, 0] rfl ?_
      exact w_J23_numberOfTrailingZeros_b34 C E Q _ _ _ hd
    · refine g_iinc (v := (1 : Int32) + 16) (L' := [(1, vI ((1 : Int32) + 16)), (0, vI ((x0 ^^^ (-1 : Int32)) &&& (x0 - (1 : Int32))))]) C dJ23_numberOfTrailingZeros_26 0 rfl rfl (by decide) rfl ?_
      refine g_iload_n C dJ23_numberOfTrailingZeros_29 rfl 1 rfl ?_
      refine g_bipush (v := 16) C dJ23_numberOfTrailingZeros_30 (by decide) ?_
      refine g_iushr C dJ23_numberOfTrailingZeros_32 ?_
      refine g_istore_n (L' := [(0, vI ((((x0 ^^^ (-1 : Int32)) &&& (x0 - (1 : Int32))).toUInt32 >>> ((16 : Int32).toUInt32 &&& Int32.toUInt32 31)).toInt32)), (1, vI ((1 : Int32) + 16))]) C dJ23_numberOfTrailingZeros_33 rfl (by decide) rfl ?_
      refine g_sub [0, 1] rfl ?_
      exact w_J23_numberOfTrailingZeros_b34 C E Q _ _ _ hd
  · refine g_iload_n C dJ23_numberOfTrailingZeros_12 rfl 0 rfl ?_
    refine g_bipush (v := 32) C dJ23_numberOfTrailingZeros_13 (by decide) ?_
    refine g_iand C dJ23_numberOfTrailingZeros_15 ?_
    exact g_iret C Q hd dJ23_numberOfTrailingZeros_16
theorem m_J23_numberOfTrailingZeros {Γ : GG} {HI : St → Heap → Prop} {l : Launch} (E : EL Γ HI l) {S : St} {a0 : Int32} {r : Int32} {S1 : St} (h : n_J23_numberOfTrailingZeros S a0 = some (r, S1)) : MS Γ HI l yJ23_numberOfTrailingZeros cJ23_numberOfTrailingZeros 2 (some (Jvm.ClassFile.FieldType.int)) 2 S [vI a0] (.inl (some (vI r))) S1 := by
  refine MS_of E.ntr E.hx (by decide +kernel) rfl (Nat.le_of_ble_eq_true rfl) fun K e1 e2 e3 e4 hnm C Q => ?_
  subst e1; subst e2; subst e3
  exact w_J23_numberOfTrailingZeros_b0m C E Q S a0 h

def n_J34_numberOfTrailingZeros (S : St) (x0 : Int64) : Option (Int32 × St) :=
  if (x0.toInt32) = 0 then
    bn (n_J23_numberOfTrailingZeros S (((x0.toUInt64 >>> ((32 : Int32).toInt64.toUInt64 &&& Int64.toUInt64 63)).toInt64).toInt32)) fun v4 S3 =>
    rtI id (Jvm.ClassFile.FieldType.int) ((32 : Int32) + v4) S3
  else
    bn (n_J23_numberOfTrailingZeros S (x0.toInt32)) fun v2 S1 =>
    rtI id (Jvm.ClassFile.FieldType.int) v2 S1
theorem w_J34_numberOfTrailingZeros_b0m {K : KT} {r : Int32} {S1 : St} (C : GC K RJ34 cJ34_numberOfTrailingZeros 3 3 []) (E : EL (kΓ K) (kHI K) (kl K)) (Q : GQ K (some (Jvm.ClassFile.FieldType.int)) (.inl (some (vI r))) S1) : ∀ (S : St) (x0 : Int64), n_J34_numberOfTrailingZeros S x0 = some (r, S1) → G K 3 S 0 [(0, vL x0)] [] := by
  intro S x0 hd
  unfold n_J34_numberOfTrailingZeros at hd
  refine g_lload_n C dJ34_numberOfTrailingZeros_0 rfl 0 rfl ?_
  refine g_l2i C dJ34_numberOfTrailingZeros_1 ?_
  refine g_istore_n (L' := [(2, vI (x0.toInt32)), (0, vL x0)]) C dJ34_numberOfTrailingZeros_2 rfl (by decide) rfl ?_
  refine g_iload_n C dJ34_numberOfTrailingZeros_3 rfl 0 rfl ?_
  refine g_if_ne (tgt := 21) C dJ34_numberOfTrailingZeros_4 (by decide) hd (fun hd => ?_) (fun hd => ?_)
  · refine g_iload_n C dJ34_numberOfTrailingZeros_21 rfl 0 rfl ?_
    obtain ⟨v2, S1, hc, hd⟩ := bn_some hd
    refine g_cS_v (n := 1) C q1840 q1841 q122 q1842 (by decide +kernel) (by decide) (by decide) dJ34_numberOfTrailingZeros_22 (As := [vI (x0.toInt32)]) (rest := []) rfl rfl (Nat.le_of_ble_eq_true rfl) (m_J23_numberOfTrailingZeros E hc) ?_
    exact g_iret C Q hd dJ34_numberOfTrailingZeros_25
  · refine g_bipush (v := 32) C dJ34_numberOfTrailingZeros_7 (by decide) ?_
    refine g_lload_n C dJ34_numberOfTrailingZeros_9 rfl 1 rfl ?_
    refine g_bipush (v := 32) C dJ34_numberOfTrailingZeros_10 (by decide) ?_
    refine g_lushr C dJ34_numberOfTrailingZeros_12 ?_
    refine g_l2i C dJ34_numberOfTrailingZeros_13 ?_
    obtain ⟨v4, S3, hc, hd⟩ := bn_some hd
    refine g_cS_v (n := 1) C q1840 q1841 q122 q1842 (by decide +kernel) (by decide) (by decide) dJ34_numberOfTrailingZeros_14 (As := [vI (((x0.toUInt64 >>> ((32 : Int32).toInt64.toUInt64 &&& Int64.toUInt64 63)).toInt64).toInt32)]) (rest := [vI (32 : Int32)]) rfl rfl (Nat.le_of_ble_eq_true rfl) (m_J23_numberOfTrailingZeros E hc) ?_
    refine g_iadd C dJ34_numberOfTrailingZeros_17 ?_
    refine g_goto (tgt := 25) C dJ34_numberOfTrailingZeros_18 (by decide) ?_
    exact g_iret C Q hd dJ34_numberOfTrailingZeros_25
theorem m_J34_numberOfTrailingZeros {Γ : GG} {HI : St → Heap → Prop} {l : Launch} (E : EL Γ HI l) {S : St} {a0 : Int64} {r : Int32} {S1 : St} (h : n_J34_numberOfTrailingZeros S a0 = some (r, S1)) : MS Γ HI l yJ34_numberOfTrailingZeros cJ34_numberOfTrailingZeros 3 (some (Jvm.ClassFile.FieldType.int)) 3 S [vL a0] (.inl (some (vI r))) S1 := by
  refine MS_of E.ntr E.hx (by decide +kernel) rfl (Nat.le_of_ble_eq_true rfl) fun K e1 e2 e3 e4 hnm C Q => ?_
  subst e1; subst e2; subst e3
  exact w_J34_numberOfTrailingZeros_b0m C E Q S a0 h

def n_J5_nextSetBit_b63 : Nat → St → Option Nat → Int32 → Int64 → Option (Int32 × St)
  | 0 => fun _ _ _ _ => none
  | n + 1 => fun S x0 x2 x3 =>
    if (gcmp x3 (0 : Int64)) = 0 then
      (gI S x0 10 1).bind fun v1 =>
      if (x2 + 1) = v1 then
        rtI id (Jvm.ClassFile.FieldType.int) (-1 : Int32) S
      else
        (gR S x0 10 0).bind fun v2 =>
        (aL S v2 3 (x2 + 1)).bind fun v3 =>
        (n_J5_nextSetBit_b63 n) S x0 (x2 + 1) v3
    else
      bn (n_J34_numberOfTrailingZeros S x3) fun v5 S4 =>
      rtI id (Jvm.ClassFile.FieldType.int) ((x2 * (64 : Int32)) + v5) S4
def n_J5_nextSetBit (S : St) (x0 : Option Nat) (x1 : Int32) : Option (Int32 × St) :=
  if 0 ≤ x1 then
    gd (grc S x0 10) <|
    bn (n_J5_checkInvariants S x0) fun _ S1 =>
    bn (n_J5_wordIndex S1 x1) fun v4 S3 =>
    (gI S3 x0 10 1).bind fun v5 =>
    if v4 < v5 then
      (gR S3 x0 10 0).bind fun v6 =>
      (aL S3 v6 3 v4).bind fun v7 =>
      n_J5_nextSetBit_b63 FU S3 x0 v4 (v7 &&& ((-1 : Int64) <<< (x1.toInt64 &&& 63)))
    else
      rtI id (Jvm.ClassFile.FieldType.int) (-1 : Int32) S3
  else
    none
theorem w_J5_nextSetBit_b63 {K : KT} {r : Int32} {S1 : St} (C : GC K RJ5 cJ5_nextSetBit 5 4 []) (E : EL (kΓ K) (kHI K) (kl K)) (Q : GQ K (some (Jvm.ClassFile.FieldType.int)) (.inl (some (vI r))) S1) : ∀ (n : Nat) (S : St) (x0 : Option Nat) (x2 : Int32) (x3 : Int64), n_J5_nextSetBit_b63 n S x0 x2 x3 = some (r, S1) → G K 5 S 63 [(0, vR x0), (2, vI x2), (3, vL x3)] [] := by
  intro n
  induction n with
  | zero => intro S x0 x2 x3 hd; cases hd
  | succ n ih =>
    intro S x0 x2 x3 hd
    unfold n_J5_nextSetBit_b63 at hd
    refine g_lload_n C dJ5_nextSetBit_63 rfl 2 rfl ?_
    refine g_lconst (v := 0) C dJ5_nextSetBit_64 (by decide) ?_
    refine g_lcmp C dJ5_nextSetBit_65 ?_
    refine g_if_eq (tgt := 79) C dJ5_nextSetBit_66 (by decide) hd (fun hd => ?_) (fun hd => ?_)
    · refine g_iinc (v := x2 + 1) (L' := [(2, vI (x2 + 1)), (0, vR x0), (3, vL x3)]) C dJ5_nextSetBit_79 1 rfl rfl (by decide) rfl ?_
      refine g_iload_n C dJ5_nextSetBit_82 rfl 0 rfl ?_
      refine g_aload_n C dJ5_nextSetBit_83 rfl 1 rfl ?_
      obtain ⟨v1, hv1, hd⟩ := Option.bind_eq_some_iff.mp hd
      refine g_fld C gk_J5 (k := 1) (by decide) q221 (Or.inl rfl) dJ5_nextSetBit_84 (gI_v hv1) ?_
      refine g_icmp_ne (tgt := 92) C dJ5_nextSetBit_87 (by decide) hd (fun hd => ?_) (fun hd => ?_)
      · refine g_aload_n C dJ5_nextSetBit_92 rfl 1 rfl ?_
        obtain ⟨v2, hv2, hd⟩ := Option.bind_eq_some_iff.mp hd
        refine g_fld C gk_J5 (k := 0) (by decide) q220 (Or.inl rfl) dJ5_nextSetBit_93 (gR_v hv2) ?_
        refine g_iload_n C dJ5_nextSetBit_96 rfl 0 rfl ?_
        obtain ⟨v3, hv3, hd⟩ := Option.bind_eq_some_iff.mp hd
        refine g_lald C dJ5_nextSetBit_97 hv3 ?_
        refine g_lstore_n (L' := [(3, vL v3), (2, vI (x2 + 1)), (0, vR x0)]) C dJ5_nextSetBit_98 rfl (by decide) rfl ?_
        refine g_goto (tgt := 63) C dJ5_nextSetBit_99 (by decide) ?_
        refine g_sub [2, 1, 0] rfl ?_
        exact ih _ _ _ _ hd
      · refine g_iconst (v := (-1)) C dJ5_nextSetBit_90 (by decide) ?_
        exact g_iret C Q hd dJ5_nextSetBit_91
    · refine g_iload_n C dJ5_nextSetBit_69 rfl 1 rfl ?_
      refine g_bipush (v := 64) C dJ5_nextSetBit_70 (by decide) ?_
      refine g_imul C dJ5_nextSetBit_72 ?_
      refine g_lload_n C dJ5_nextSetBit_73 rfl 2 rfl ?_
      obtain ⟨v5, S4, hc, hd⟩ := bn_some hd
      refine g_cS_v (n := 1) C q1837 q1838 q142 q1839 (by decide +kernel) (by decide) (by decide) dJ5_nextSetBit_74 (As := [vL x3]) (rest := [vI (x2 * (64 : Int32))]) rfl rfl (Nat.le_of_ble_eq_true rfl) (m_J34_numberOfTrailingZeros E hc) ?_
      refine g_iadd C dJ5_nextSetBit_77 ?_
      exact g_iret C Q hd dJ5_nextSetBit_78
theorem w_J5_nextSetBit_b0m {K : KT} {r : Int32} {S1 : St} (C : GC K RJ5 cJ5_nextSetBit 5 4 []) (E : EL (kΓ K) (kHI K) (kl K)) (Q : GQ K (some (Jvm.ClassFile.FieldType.int)) (.inl (some (vI r))) S1) : ∀ (S : St) (x0 : Option Nat) (x1 : Int32), n_J5_nextSetBit S x0 x1 = some (r, S1) → G K 5 S 0 [(0, vR x0), (1, vI x1)] [] := by
  intro S x0 x1 hd
  unfold n_J5_nextSetBit at hd
  refine g_iload_n C dJ5_nextSetBit_0 rfl 1 rfl ?_
  refine g_if_ge (tgt := 31) C dJ5_nextSetBit_1 (by decide) hd (fun hd => ?_) (fun hd => ?_)
  · refine g_aload_n C dJ5_nextSetBit_31 rfl 0 rfl ?_
    obtain ⟨hg, hd⟩ := gd_some hd
    obtain ⟨_, S1, hc, hd⟩ := bn_some hd
    refine g_cV_n (n := 0) C (gk_J5).1 q1776 q1778 qs44 q101 q1779 (by decide +kernel) (by decide) (by decide) dJ5_nextSetBit_32 (As := []) (rest := []) rfl rfl (Nat.le_of_ble_eq_true rfl) hg (m_J5_checkInvariants E hc) ?_
    refine g_iload_n C dJ5_nextSetBit_35 rfl 1 rfl ?_
    obtain ⟨v4, S3, hc, hd⟩ := bn_some hd
    refine g_cS_v (n := 1) C q217 q218 q101 q219 (by decide +kernel) (by decide) (by decide) dJ5_nextSetBit_36 (As := [vI x1]) (rest := []) rfl rfl (Nat.le_of_ble_eq_true rfl) (m_J5_wordIndex E hc) ?_
    refine g_istore_n (L' := [(2, vI v4), (0, vR x0), (1, vI x1)]) C dJ5_nextSetBit_39 rfl (by decide) rfl ?_
    refine g_iload_n C dJ5_nextSetBit_40 rfl 0 rfl ?_
    refine g_aload_n C dJ5_nextSetBit_41 rfl 1 rfl ?_
    obtain ⟨v5, hv5, hd⟩ := Option.bind_eq_some_iff.mp hd
    refine g_fld C gk_J5 (k := 1) (by decide) q221 (Or.inl rfl) dJ5_nextSetBit_42 (gI_v hv5) ?_
    refine g_icmp_lt (tgt := 50) C dJ5_nextSetBit_45 (by decide) hd (fun hd => ?_) (fun hd => ?_)
    · refine g_aload_n C dJ5_nextSetBit_50 rfl 1 rfl ?_
      obtain ⟨v6, hv6, hd⟩ := Option.bind_eq_some_iff.mp hd
      refine g_fld C gk_J5 (k := 0) (by decide) q220 (Or.inl rfl) dJ5_nextSetBit_51 (gR_v hv6) ?_
      refine g_iload_n C dJ5_nextSetBit_54 rfl 0 rfl ?_
      obtain ⟨v7, hv7, hd⟩ := Option.bind_eq_some_iff.mp hd
      refine g_lald C dJ5_nextSetBit_55 hv7 ?_
      refine g_ldc2 C q1836 dJ5_nextSetBit_56 ?_
      refine g_iload_n C dJ5_nextSetBit_59 rfl 2 rfl ?_
      refine g_lshl C dJ5_nextSetBit_60 ?_
      refine g_land C dJ5_nextSetBit_61 ?_
      refine g_lstore_n (L' := [(3, vL (v7 &&& ((-1 : Int64) <<< (x1.toInt64 &&& 63)))), (2, vI v4), (0, vR x0), (1, vI x1)]) C dJ5_nextSetBit_62 rfl (by decide) rfl ?_
      refine g_sub [2, 1, 0] rfl ?_
      exact w_J5_nextSetBit_b63 C E Q FU _ _ _ _ hd
    · refine g_iconst (v := (-1)) C dJ5_nextSetBit_48 (by decide) ?_
      exact g_iret C Q hd dJ5_nextSetBit_49
  · cases hd
theorem m_J5_nextSetBit {Γ : GG} {HI : St → Heap → Prop} {l : Launch} (E : EL Γ HI l) {S : St} {a0 : Option Nat} {a1 : Int32} {r : Int32} {S1 : St} (h : n_J5_nextSetBit S a0 a1 = some (r, S1)) : MS Γ HI l yJ5_nextSetBit cJ5_nextSetBit 5 (some (Jvm.ClassFile.FieldType.int)) 4 S [vR a0, vI a1] (.inl (some (vI r))) S1 := by
  refine MS_of E.ntr E.hx (by decide +kernel) rfl (Nat.le_of_ble_eq_true rfl) fun K e1 e2 e3 e4 hnm C Q => ?_
  subst e1; subst e2; subst e3
  exact w_J5_nextSetBit_b0m C E Q S a0 a1 h

def n_J33_init (S : St) (x0 : Option Nat) : Option (Unit × St) :=
  gd (x0).isSome <|
  bn (n_J0_init S x0) fun _ S1 =>
  naB S1 4 (17 : Int32) fun q3 S4 =>
  (pR S4 x0 14 0 q3).bind fun S5 =>
  some ((), S5)
theorem w_J33_init_b0m {K : KT} {r : Unit} {S1 : St} (C : GC K RJ33 cJ33_init 1 3 []) (E : EL (kΓ K) (kHI K) (kl K)) (Q : GQ K none (.inl none) S1) (hnm : kLv K → (kme K).name = "<init>") : ∀ (S : St) (x0 : Option Nat), n_J33_init S x0 = some (r, S1) → G K 1 S 0 [(0, vR x0)] [] := by
  intro S x0 hd
  unfold n_J33_init at hd
  refine g_aload_n C dJ33_init_0 rfl 0 rfl ?_
  obtain ⟨hg, hd⟩ := gd_some hd
  obtain ⟨_, S1, hc, hd⟩ := bn_some hd
  refine g_cI_n (n := 0) C q1466 q160 q96 q161 rfl (by decide +kernel) (by decide) (by decide) dJ33_init_1 (As := []) (rest := []) rfl rfl (Nat.le_of_ble_eq_true rfl) hg (m_J0_init E hc) ?_
  refine g_aload_n C dJ33_init_4 rfl 0 rfl ?_
  refine g_bipush (v := 17) C dJ33_init_5 (by decide) ?_
  refine g_anew C 4 (Or.inl ⟨rfl, rfl⟩) q1467 dJ33_init_7 hd (fun q3 S4 hd => ?_)
  obtain ⟨S5, hS5, hd⟩ := Option.bind_eq_some_iff.mp hd
  refine g_put C gk_J33 (k := 0) (by decide) q1468 (Or.inl rfl) rfl dJ33_init_10 (fit_ref _ (Or.inr ⟨_, rfl⟩)).1 (fit_ref _ (Or.inr ⟨_, rfl⟩)).2 hS5 ?_
  exact g_vret C Q hd dJ33_init_13
theorem m_J33_init {Γ : GG} {HI : St → Heap → Prop} {l : Launch} (E : EL Γ HI l) {S : St} {a0 : Option Nat} {r : Unit} {S1 : St} (h : n_J33_init S a0 = some (r, S1)) : MS Γ HI l yJ33_init cJ33_init 1 none 3 S [vR a0] (.inl none) S1 := by
  refine MS_of E.ntr E.hx (by decide +kernel) rfl (Nat.le_of_ble_eq_true rfl) fun K e1 e2 e3 e4 hnm C Q => ?_
  subst e1; subst e2; subst e3
  exact w_J33_init_b0m C E Q (by exact hnm) S a0 h

def n_J33_inc (S : St) (x0 : Int32) (x1 : Int32) : Option (Int32 × St) :=
  if (x0 + 1) < x1 then
    rtI id (Jvm.ClassFile.FieldType.int) (x0 + 1) S
  else
    rtI id (Jvm.ClassFile.FieldType.int) (0 : Int32) S
theorem w_J33_inc_b0m {K : KT} {r : Int32} {S1 : St} (C : GC K RJ33 cJ33_inc 2 2 []) (E : EL (kΓ K) (kHI K) (kl K)) (Q : GQ K (some (Jvm.ClassFile.FieldType.int)) (.inl (some (vI r))) S1) : ∀ (S : St) (x0 : Int32) (x1 : Int32), n_J33_inc S x0 x1 = some (r, S1) → G K 2 S 0 [(0, vI x0), (1, vI x1)] [] := by
  intro S x0 x1 hd
  unfold n_J33_inc at hd
  refine g_iinc (v := x0 + 1) (L' := [(0, vI (x0 + 1)), (1, vI x1)]) C dJ33_inc_0 0 rfl rfl (by decide) rfl ?_
  refine g_iload_n C dJ33_inc_3 rfl 0 rfl ?_
  refine g_iload_n C dJ33_inc_4 rfl 1 rfl ?_
  refine g_icmp_lt (tgt := 10) C dJ33_inc_5 (by decide) hd (fun hd => ?_) (fun hd => ?_)
  · refine g_iload_n C dJ33_inc_10 rfl 0 rfl ?_
    exact g_iret C Q hd dJ33_inc_11
  · refine g_iconst (v := 0) C dJ33_inc_8 (by decide) ?_
    refine g_istore_n (L' := [(0, vI (0 : Int32)), (1, vI x1)]) C dJ33_inc_9 rfl (by decide) rfl ?_
    refine g_iload_n C dJ33_inc_10 rfl 0 rfl ?_
    exact g_iret C Q hd dJ33_inc_11
theorem m_J33_inc {Γ : GG} {HI : St → Heap → Prop} {l : Launch} (E : EL Γ HI l) {S : St} {a0 : Int32} {a1 : Int32} {r : Int32} {S1 : St} (h : n_J33_inc S a0 a1 = some (r, S1)) : MS Γ HI l yJ33_inc cJ33_inc 2 (some (Jvm.ClassFile.FieldType.int)) 2 S [vI a0, vI a1] (.inl (some (vI r))) S1 := by
  refine MS_of E.ntr E.hx (by decide +kernel) rfl (Nat.le_of_ble_eq_true rfl) fun K e1 e2 e3 e4 hnm C Q => ?_
  subst e1; subst e2; subst e3
  exact w_J33_inc_b0m C E Q S a0 a1 h

def n_J33_grow_b145 : Nat → St → Option Nat → Int32 → Int32 → Option (Unit × St)
  | 0 => fun _ _ _ _ => none
  | n + 1 => fun S x5 x7 x8 =>
    if x8 ≤ x7 then
      some ((), S)
    else
      (sR S x5 4 x7 none).bind fun S1 =>
      (n_J33_grow_b145 n) S1 x5 (x7 + 1) x8
def n_J33_grow_b96 (S : St) (x0 : Option Nat) (x2 : Int32) (x3 : Int32) (x5 : Option Nat) : Option (Unit × St) :=
  (gI S x0 14 1).bind fun v1 =>
  (gI S x0 14 1).bind fun v2 =>
  (gI S x0 14 1).bind fun v3 =>
  (acp S x5 v1 x5 (v2 + (x3 - x2)) (x2 - v3)).bind fun S4 =>
  (gI S4 x0 14 1).bind fun v5 =>
  (gI S4 x0 14 1).bind fun v6 =>
  (pI .int S4 x0 14 1 (v6 + (x3 - x2))).bind fun S7 =>
  n_J33_grow_b145 FU S7 x5 v5 (v6 + (x3 - x2))
def n_J33_grow_b21 (S : St) (x0 : Option Nat) (x1 : Int32) (x2 : Int32) (y0 : Int32) : Option (Unit × St) :=
  if y0 < x1 then
    none
  else
    if ((x2 + y0) - (2147483639 : Int32)) ≤ 0 then
      (gR S x0 14 0).bind fun v1 =>
      bn (n_J8_copyOf S v1 (x2 + y0)) fun v3 S2 =>
      (pR S2 x0 14 0 v3).bind fun S4 =>
      (gI S4 x0 14 2).bind fun v5 =>
      (gI S4 x0 14 1).bind fun v6 =>
      if v5 < v6 then
        n_J33_grow_b96 S4 x0 x2 (x2 + y0) v3
      else
        (gI S4 x0 14 2).bind fun v7 =>
        (gI S4 x0 14 1).bind fun v8 =>
        if v7 = v8 then
          (gI S4 x0 14 1).bind fun v9 =>
          (aR S4 v3 4 v9).bind fun v10 =>
          if v10 = none then
            some ((), S4)
          else
            n_J33_grow_b96 S4 x0 x2 (x2 + y0) v3
        else
          some ((), S4)
    else
      none
def n_J33_grow (S : St) (x0 : Option Nat) (x1 : Int32) : Option (Unit × St) :=
  (gR S x0 14 0).bind fun v1 =>
  (aLn S v1).bind fun v2 =>
  if (64 : Int32) ≤ v2 then
    n_J33_grow_b21 S x0 x1 v2 (v2 >>> ((1 : Int32) &&& 31))
  else
    n_J33_grow_b21 S x0 x1 v2 (v2 + (2 : Int32))
theorem w_J33_grow_b145 {K : KT} {r : Unit} {S1 : St} (C : GC K RJ33 cJ33_grow 9 5 []) (E : EL (kΓ K) (kHI K) (kl K)) (Q : GQ K none (.inl none) S1) : ∀ (n : Nat) (S : St) (x5 : Option Nat) (x7 : Int32) (x8 : Int32), n_J33_grow_b145 n S x5 x7 x8 = some (r, S1) → G K 9 S 145 [(5, vR x5), (7, vI x7), (8, vI x8)] [] := by
  intro n
  induction n with
  | zero => intro S x5 x7 x8 hd; cases hd
  | succ n ih =>
    intro S x5 x7 x8 hd
    unfold n_J33_grow_b145 at hd
    refine g_iload C dJ33_grow_145 1 rfl ?_
    refine g_iload C dJ33_grow_147 2 rfl ?_
    refine g_icmp_ge (tgt := 164) C dJ33_grow_149 (by decide) hd (fun hd => ?_) (fun hd => ?_)
    · exact g_vret C Q hd dJ33_grow_164
    · refine g_aload C dJ33_grow_152 0 rfl ?_
      refine g_iload C dJ33_grow_154 1 rfl ?_
      refine g_null C dJ33_grow_156 ?_
      obtain ⟨S1, hS1, hd⟩ := Option.bind_eq_some_iff.mp hd
      refine g_aast C 4 (by decide) dJ33_grow_157 hS1 ?_
      refine g_iinc (v := x7 + 1) (L' := [(7, vI (x7 + 1)), (5, vR x5), (8, vI x8)]) C dJ33_grow_158 1 rfl rfl (by decide) rfl ?_
      refine g_goto (tgt := 145) C dJ33_grow_161 (by decide) ?_
      refine g_sub [1, 0, 2] rfl ?_
      exact ih _ _ _ _ hd
theorem w_J33_grow_b96 {K : KT} {r : Unit} {S1 : St} (C : GC K RJ33 cJ33_grow 9 5 []) (E : EL (kΓ K) (kHI K) (kl K)) (Q : GQ K none (.inl none) S1) : ∀ (S : St) (x0 : Option Nat) (x2 : Int32) (x3 : Int32) (x5 : Option Nat), n_J33_grow_b96 S x0 x2 x3 x5 = some (r, S1) → G K 9 S 96 [(0, vR x0), (2, vI x2), (3, vI x3), (5, vR x5)] [] := by
  intro S x0 x2 x3 x5 hd
  unfold n_J33_grow_b96 at hd
  refine g_iload_n C dJ33_grow_96 rfl 2 rfl ?_
  refine g_iload_n C dJ33_grow_97 rfl 1 rfl ?_
  refine g_isub C dJ33_grow_98 ?_
  refine g_istore (L' := [(6, vI (x3 - x2)), (0, vR x0), (2, vI x2), (3, vI x3), (5, vR x5)]) C dJ33_grow_99 (by decide) rfl ?_
  refine g_aload C dJ33_grow_101 4 rfl ?_
  refine g_aload_n C dJ33_grow_103 rfl 1 rfl ?_
  obtain ⟨v1, hv1, hd⟩ := Option.bind_eq_some_iff.mp hd
  refine g_fld C gk_J33 (k := 1) (by decide) q1469 (Or.inl rfl) dJ33_grow_104 (gI_v hv1) ?_
  refine g_aload C dJ33_grow_107 4 rfl ?_
  refine g_aload_n C dJ33_grow_109 rfl 1 rfl ?_
  obtain ⟨v2, hv2, hd⟩ := Option.bind_eq_some_iff.mp hd
  refine g_fld C gk_J33 (k := 1) (by decide) q1469 (Or.inl rfl) dJ33_grow_110 (gI_v hv2) ?_
  refine g_iload C dJ33_grow_113 0 rfl ?_
  refine g_iadd C dJ33_grow_115 ?_
  refine g_iload_n C dJ33_grow_116 rfl 2 rfl ?_
  refine g_aload_n C dJ33_grow_117 rfl 1 rfl ?_
  obtain ⟨v3, hv3, hd⟩ := Option.bind_eq_some_iff.mp hd
  refine g_fld C gk_J33 (k := 1) (by decide) q1469 (Or.inl rfl) dJ33_grow_118 (gI_v hv3) ?_
  refine g_isub C dJ33_grow_121 ?_
  obtain ⟨S4, hS4, hd⟩ := Option.bind_eq_some_iff.mp hd
  refine g_acopy C q1506 (by decide) (Nat.le_of_ble_eq_true rfl) dJ33_grow_122 hS4 ?_
  refine g_aload_n C dJ33_grow_125 rfl 1 rfl ?_
  obtain ⟨v5, hv5, hd⟩ := Option.bind_eq_some_iff.mp hd
  refine g_fld C gk_J33 (k := 1) (by decide) q1469 (Or.inl rfl) dJ33_grow_126 (gI_v hv5) ?_
  refine g_istore (L' := [(7, vI v5), (6, vI (x3 - x2)), (0, vR x0), (2, vI x2), (3, vI x3), (5, vR x5)]) C dJ33_grow_129 (by decide) rfl ?_
  refine g_aload_n C dJ33_grow_131 rfl 2 rfl ?_
  refine g_dup C dJ33_grow_132 rfl ?_
  obtain ⟨v6, hv6, hd⟩ := Option.bind_eq_some_iff.mp hd
  refine g_fld C gk_J33 (k := 1) (by decide) q1469 (Or.inl rfl) dJ33_grow_133 (gI_v hv6) ?_
  refine g_iload C dJ33_grow_136 1 rfl ?_
  refine g_iadd C dJ33_grow_138 ?_
  refine g_dup_x1 C dJ33_grow_139 rfl rfl ?_
  obtain ⟨S7, hS7, hd⟩ := Option.bind_eq_some_iff.mp hd
  refine g_put C gk_J33 (k := 1) (by decide) q1469 (Or.inl rfl) rfl dJ33_grow_140 (gfit_ok (pI_v hS7).1).1 (gfit_ok (pI_v hS7).1).2 (pI_v hS7).2 ?_
  refine g_istore (L' := [(8, vI (v6 + (x3 - x2))), (7, vI v5), (6, vI (x3 - x2)), (0, vR x0), (2, vI x2), (3, vI x3), (5, vR x5)]) C dJ33_grow_143 (by decide) rfl ?_
  refine g_sub [6, 1, 0] rfl ?_
  exact w_J33_grow_b145 C E Q FU _ _ _ _ hd
theorem w_J33_grow_b21 {K : KT} {r : Unit} {S1 : St} (C : GC K RJ33 cJ33_grow 9 5 []) (E : EL (kΓ K) (kHI K) (kl K)) (Q : GQ K none (.inl none) S1) : ∀ (S : St) (x0 : Option Nat) (x1 : Int32) (x2 : Int32) (y0 : Int32), n_J33_grow_b21 S x0 x1 x2 y0 = some (r, S1) → G K 9 S 21 [(0, vR x0), (1, vI x1), (2, vI x2)] [vI y0] := by
  intro S x0 x1 x2 y0 hd
  unfold n_J33_grow_b21 at hd
  refine g_istore (L' := [(4, vI y0), (0, vR x0), (1, vI x1), (2, vI x2)]) C dJ33_grow_21 (by decide) rfl ?_
  refine g_iload C dJ33_grow_23 0 rfl ?_
  refine g_iload_n C dJ33_grow_25 rfl 2 rfl ?_
  refine g_icmp_lt (tgt := 41) C dJ33_grow_26 (by decide) hd (fun hd => ?_) (fun hd => ?_)
  · refine g_aload_n C dJ33_grow_41 rfl 1 rfl ?_
    refine g_iload_n C dJ33_grow_42 rfl 2 rfl ?_
    refine g_iload C dJ33_grow_43 0 rfl ?_
    cases hd
  · refine g_iload_n C dJ33_grow_29 rfl 3 rfl ?_
    refine g_iload C dJ33_grow_30 0 rfl ?_
    refine g_iadd C dJ33_grow_32 ?_
    refine g_dup C dJ33_grow_33 rfl ?_
    refine g_istore_n (L' := [(3, vI (x2 + y0)), (4, vI y0), (0, vR x0), (1, vI x1), (2, vI x2)]) C dJ33_grow_34 rfl (by decide) rfl ?_
    refine g_ldc C q1493 dJ33_grow_35 ?_
    refine g_isub C dJ33_grow_37 ?_
    refine g_if_le (tgt := 49) C dJ33_grow_38 (by decide) hd (fun hd => ?_) (fun hd => ?_)
    · refine g_aload_n C dJ33_grow_49 rfl 2 rfl ?_
      refine g_aload_n C dJ33_grow_50 rfl 2 rfl ?_
      obtain ⟨v1, hv1, hd⟩ := Option.bind_eq_some_iff.mp hd
      refine g_fld C gk_J33 (k := 0) (by decide) q1468 (Or.inl rfl) dJ33_grow_51 (gR_v hv1) ?_
      refine g_iload_n C dJ33_grow_54 rfl 0 rfl ?_
      obtain ⟨v3, S2, hc, hd⟩ := bn_some hd
      refine g_cS_v (n := 2) C q1505 q306 q105 q307 (by decide +kernel) (by decide) (by decide) dJ33_grow_55 (As := [vR v1, vI (x2 + y0)]) (rest := [vR x0]) rfl rfl (Nat.le_of_ble_eq_true rfl) (m_J8_copyOf E hc) ?_
      refine g_dup_x1 C dJ33_grow_58 rfl rfl ?_
      obtain ⟨S4, hS4, hd⟩ := Option.bind_eq_some_iff.mp hd
      refine g_put C gk_J33 (k := 0) (by decide) q1468 (Or.inl rfl) rfl dJ33_grow_59 (fit_ref _ (Or.inr ⟨_, rfl⟩)).1 (fit_ref _ (Or.inr ⟨_, rfl⟩)).2 hS4 ?_
      refine g_astore (L' := [(5, vR v3), (3, vI (x2 + y0)), (4, vI y0), (0, vR x0), (1, vI x1), (2, vI x2)]) C dJ33_grow_62 (by decide) rfl ?_
      refine g_aload_n C dJ33_grow_64 rfl 3 rfl ?_
      obtain ⟨v5, hv5, hd⟩ := Option.bind_eq_some_iff.mp hd
      refine g_fld C gk_J33 (k := 2) (by decide) q1470 (Or.inl rfl) dJ33_grow_65 (gI_v hv5) ?_
      refine g_aload_n C dJ33_grow_68 rfl 3 rfl ?_
      obtain ⟨v6, hv6, hd⟩ := Option.bind_eq_some_iff.mp hd
      refine g_fld C gk_J33 (k := 1) (by decide) q1469 (Or.inl rfl) dJ33_grow_69 (gI_v hv6) ?_
      refine g_icmp_lt (tgt := 96) C dJ33_grow_72 (by decide) hd (fun hd => ?_) (fun hd => ?_)
      · refine g_sub [3, 5, 1, 0] rfl ?_
        exact w_J33_grow_b96 C E Q _ _ _ _ _ hd
      · refine g_aload_n C dJ33_grow_75 rfl 3 rfl ?_
        obtain ⟨v7, hv7, hd⟩ := Option.bind_eq_some_iff.mp hd
        refine g_fld C gk_J33 (k := 2) (by decide) q1470 (Or.inl rfl) dJ33_grow_76 (gI_v hv7) ?_
        refine g_aload_n C dJ33_grow_79 rfl 3 rfl ?_
        obtain ⟨v8, hv8, hd⟩ := Option.bind_eq_some_iff.mp hd
        refine g_fld C gk_J33 (k := 1) (by decide) q1469 (Or.inl rfl) dJ33_grow_80 (gI_v hv8) ?_
        refine g_icmp_ne (tgt := 164) C dJ33_grow_83 (by decide) hd (fun hd => ?_) (fun hd => ?_)
        · exact g_vret C Q hd dJ33_grow_164
        · refine g_aload C dJ33_grow_86 0 rfl ?_
          refine g_aload_n C dJ33_grow_88 rfl 3 rfl ?_
          obtain ⟨v9, hv9, hd⟩ := Option.bind_eq_some_iff.mp hd
          refine g_fld C gk_J33 (k := 1) (by decide) q1469 (Or.inl rfl) dJ33_grow_89 (gI_v hv9) ?_
          obtain ⟨v10, hv10, hd⟩ := Option.bind_eq_some_iff.mp hd
          refine g_aald C 4 (by decide) dJ33_grow_92 hv10 ?_
          refine g_ifnull (tgt := 164) C dJ33_grow_93 (by decide) hd (fun hd => ?_) (fun hd => ?_)
          · exact g_vret C Q hd dJ33_grow_164
          · refine g_sub [3, 5, 1, 0] rfl ?_
            exact w_J33_grow_b96 C E Q _ _ _ _ _ hd
    · refine g_aload_n C dJ33_grow_41 rfl 2 rfl ?_
      refine g_iload_n C dJ33_grow_42 rfl 3 rfl ?_
      refine g_iload C dJ33_grow_43 1 rfl ?_
      cases hd
theorem w_J33_grow_b0m {K : KT} {r : Unit} {S1 : St} (C : GC K RJ33 cJ33_grow 9 5 []) (E : EL (kΓ K) (kHI K) (kl K)) (Q : GQ K none (.inl none) S1) : ∀ (S : St) (x0 : Option Nat) (x1 : Int32), n_J33_grow S x0 x1 = some (r, S1) → G K 9 S 0 [(0, vR x0), (1, vI x1)] [] := by
  intro S x0 x1 hd
  unfold n_J33_grow at hd
  refine g_aload_n C dJ33_grow_0 rfl 0 rfl ?_
  obtain ⟨v1, hv1, hd⟩ := Option.bind_eq_some_iff.mp hd
  refine g_fld C gk_J33 (k := 0) (by decide) q1468 (Or.inl rfl) dJ33_grow_1 (gR_v hv1) ?_
  obtain ⟨v2, hv2, hd⟩ := Option.bind_eq_some_iff.mp hd
  refine g_alen C dJ33_grow_4 hv2 ?_
  refine g_istore_n (L' := [(2, vI v2), (0, vR x0), (1, vI x1)]) C dJ33_grow_5 rfl (by decide) rfl ?_
  refine g_iload_n C dJ33_grow_6 rfl 0 rfl ?_
  refine g_bipush (v := 64) C dJ33_grow_7 (by decide) ?_
  refine g_icmp_ge (tgt := 18) C dJ33_grow_9 (by decide) hd (fun hd => ?_) (fun hd => ?_)
  · refine g_iload_n C dJ33_grow_18 rfl 0 rfl ?_
    refine g_iconst (v := 1) C dJ33_grow_19 (by decide) ?_
    refine g_ishr C dJ33_grow_20 ?_
    refine g_sub [1, 2, 0] rfl ?_
    exact w_J33_grow_b21 C E Q _ _ _ _ _ hd
  · refine g_iload_n C dJ33_grow_12 rfl 0 rfl ?_
    refine g_iconst (v := 2) C dJ33_grow_13 (by decide) ?_
    refine g_iadd C dJ33_grow_14 ?_
    refine g_goto (tgt := 21) C dJ33_grow_15 (by decide) ?_
    refine g_sub [1, 2, 0] rfl ?_
    exact w_J33_grow_b21 C E Q _ _ _ _ _ hd
theorem m_J33_grow {Γ : GG} {HI : St → Heap → Prop} {l : Launch} (E : EL Γ HI l) {S : St} {a0 : Option Nat} {a1 : Int32} {r : Unit} {S1 : St} (h : n_J33_grow S a0 a1 = some (r, S1)) : MS Γ HI l yJ33_grow cJ33_grow 9 none 5 S [vR a0, vI a1] (.inl none) S1 := by
  refine MS_of E.ntr E.hx (by decide +kernel) rfl (Nat.le_of_ble_eq_true rfl) fun K e1 e2 e3 e4 hnm C Q => ?_
  subst e1; subst e2; subst e3
  exact w_J33_grow_b0m C E Q S a0 a1 h

def n_J33_addLast (S : St) (x0 : Option Nat) (x1 : Option Nat) : Option (Unit × St) :=
  if x1 = none then
    none
  else
    (gR S x0 14 0).bind fun v1 =>
    (gI S x0 14 2).bind fun v2 =>
    (sR S v1 4 v2 x1).bind fun S3 =>
    (gI S3 x0 14 1).bind fun v4 =>
    (gI S3 x0 14 2).bind fun v5 =>
    (aLn S3 v1).bind fun v6 =>
    bn (n_J33_inc S3 v5 v6) fun v8 S7 =>
    (pI .int S7 x0 14 2 v8).bind fun S9 =>
    if v4 = v8 then
      gd (grc S9 x0 14) <|
      bn (n_J33_grow S9 x0 (1 : Int32)) fun _ S10 =>
      some ((), S10)
    else
      some ((), S9)
theorem w_J33_addLast_b0m {K : KT} {r : Unit} {S1 : St} (C : GC K RJ33 cJ33_addLast 3 6 []) (E : EL (kΓ K) (kHI K) (kl K)) (Q : GQ K none (.inl none) S1) : ∀ (S : St) (x0 : Option Nat) (x1 : Option Nat), n_J33_addLast S x0 x1 = some (r, S1) → G K 3 S 0 [(0, vR x0), (1, vR x1)] [] := by
  intro S x0 x1 hd
  unfold n_J33_addLast at hd
  refine g_aload_n C dJ33_addLast_0 rfl 1 rfl ?_
  refine g_ifnonnull (tgt := 12) C dJ33_addLast_1 (by decide) hd (fun hd => ?_) (fun hd => ?_)
  · refine g_aload_n C dJ33_addLast_12 rfl 0 rfl ?_
    obtain ⟨v1, hv1, hd⟩ := Option.bind_eq_some_iff.mp hd
    refine g_fld C gk_J33 (k := 0) (by decide) q1468 (Or.inl rfl) dJ33_addLast_13 (gR_v hv1) ?_
    refine g_astore_n (L' := [(2, vR v1), (0, vR x0), (1, vR x1)]) C dJ33_addLast_16 rfl (by decide) rfl ?_
    refine g_aload_n C dJ33_addLast_17 rfl 0 rfl ?_
    refine g_aload_n C dJ33_addLast_18 rfl 1 rfl ?_
    obtain ⟨v2, hv2, hd⟩ := Option.bind_eq_some_iff.mp hd
    refine g_fld C gk_J33 (k := 2) (by decide) q1470 (Or.inl rfl) dJ33_addLast_19 (gI_v hv2) ?_
    refine g_aload_n C dJ33_addLast_22 rfl 2 rfl ?_
    obtain ⟨S3, hS3, hd⟩ := Option.bind_eq_some_iff.mp hd
    refine g_aast C 4 (by decide) dJ33_addLast_23 hS3 ?_
    refine g_aload_n C dJ33_addLast_24 rfl 1 rfl ?_
    obtain ⟨v4, hv4, hd⟩ := Option.bind_eq_some_iff.mp hd
    refine g_fld C gk_J33 (k := 1) (by decide) q1469 (Or.inl rfl) dJ33_addLast_25 (gI_v hv4) ?_
    refine g_aload_n C dJ33_addLast_28 rfl 1 rfl ?_
    refine g_aload_n C dJ33_addLast_29 rfl 1 rfl ?_
    obtain ⟨v5, hv5, hd⟩ := Option.bind_eq_some_iff.mp hd
    refine g_fld C gk_J33 (k := 2) (by decide) q1470 (Or.inl rfl) dJ33_addLast_30 (gI_v hv5) ?_
    refine g_aload_n C dJ33_addLast_33 rfl 0 rfl ?_
    obtain ⟨v6, hv6, hd⟩ := Option.bind_eq_some_iff.mp hd
    refine g_alen C dJ33_addLast_34 hv6 ?_
    obtain ⟨v8, S7, hc, hd⟩ := bn_some hd
    refine g_cS_v (n := 2) C q1486 q1487 q138 q1488 (by decide +kernel) (by decide) (by decide) dJ33_addLast_35 (As := [vI v5, vI v6]) (rest := [vR x0, vI v4]) rfl rfl (Nat.le_of_ble_eq_true rfl) (m_J33_inc E hc) ?_
    refine g_dup_x1 C dJ33_addLast_38 rfl rfl ?_
    obtain ⟨S9, hS9, hd⟩ := Option.bind_eq_some_iff.mp hd
    refine g_put C gk_J33 (k := 2) (by decide) q1470 (Or.inl rfl) rfl dJ33_addLast_39 (gfit_ok (pI_v hS9).1).1 (gfit_ok (pI_v hS9).1).2 (pI_v hS9).2 ?_
    refine g_icmp_ne (tgt := 50) C dJ33_addLast_42 (by decide) hd (fun hd => ?_) (fun hd => ?_)
    · exact g_vret C Q hd dJ33_addLast_50
    · refine g_aload_n C dJ33_addLast_45 rfl 1 rfl ?_
      refine g_iconst (v := 1) C dJ33_addLast_46 (by decide) ?_
      obtain ⟨hg, hd⟩ := gd_some hd
      obtain ⟨_, S10, hc, hd⟩ := bn_some hd
      refine g_cV_n (n := 1) C (gk_J33).1 q1489 q1491 qs25 q138 q1492 (by decide +kernel) (by decide) (by decide) dJ33_addLast_47 (As := [vI (1 : Int32)]) (rest := []) rfl rfl (Nat.le_of_ble_eq_true rfl) hg (m_J33_grow E hc) ?_
      exact g_vret C Q hd dJ33_addLast_50
  · cases hd
theorem m_J33_addLast {Γ : GG} {HI : St → Heap → Prop} {l : Launch} (E : EL Γ HI l) {S : St} {a0 : Option Nat} {a1 : Option Nat} {r : Unit} {S1 : St} (h : n_J33_addLast S a0 a1 = some (r, S1)) : MS Γ HI l yJ33_addLast cJ33_addLast 3 none 6 S [vR a0, vR a1] (.inl none) S1 := by
  refine MS_of E.ntr E.hx (by decide +kernel) rfl (Nat.le_of_ble_eq_true rfl) fun K e1 e2 e3 e4 hnm C Q => ?_
  subst e1; subst e2; subst e3
  exact w_J33_addLast_b0m C E Q S a0 a1 h

def n_J33_add (S : St) (x0 : Option Nat) (x1 : Option Nat) : Option (Int32 × St) :=
  gd (grc S x0 14) <|
  bn (n_J33_addLast S x0 x1) fun _ S1 =>
  rtI id (Jvm.ClassFile.FieldType.boolean) (1 : Int32) S1
theorem w_J33_add_b0m {K : KT} {r : Int32} {S1 : St} (C : GC K RJ33 cJ33_add 2 7 []) (E : EL (kΓ K) (kHI K) (kl K)) (Q : GQ K (some (Jvm.ClassFile.FieldType.boolean)) (.inl (some (vI r))) S1) : ∀ (S : St) (x0 : Option Nat) (x1 : Option Nat), n_J33_add S x0 x1 = some (r, S1) → G K 2 S 0 [(0, vR x0), (1, vR x1)] [] := by
  intro S x0 x1 hd
  unfold n_J33_add at hd
  refine g_aload_n C dJ33_add_0 rfl 0 rfl ?_
  refine g_aload_n C dJ33_add_1 rfl 1 rfl ?_
  obtain ⟨hg, hd⟩ := gd_some hd
  obtain ⟨_, S1, hc, hd⟩ := bn_some hd
  refine g_cV_n (n := 1) C (gk_J33).1 q1482 q1483 q1484 q138 q1485 (by decide +kernel) (by decide) (by decide) dJ33_add_2 (As := [vR x1]) (rest := []) rfl rfl (Nat.le_of_ble_eq_true rfl) hg (m_J33_addLast E hc) ?_
  refine g_iconst (v := 1) C dJ33_add_5 (by decide) ?_
  exact g_iret C Q hd dJ33_add_6
theorem m_J33_add {Γ : GG} {HI : St → Heap → Prop} {l : Launch} (E : EL Γ HI l) {S : St} {a0 : Option Nat} {a1 : Option Nat} {r : Int32} {S1 : St} (h : n_J33_add S a0 a1 = some (r, S1)) : MS Γ HI l yJ33_add cJ33_add 2 (some (Jvm.ClassFile.FieldType.boolean)) 7 S [vR a0, vR a1] (.inl (some (vI r))) S1 := by
  refine MS_of E.ntr E.hx (by decide +kernel) rfl (Nat.le_of_ble_eq_true rfl) fun K e1 e2 e3 e4 hnm C Q => ?_
  subst e1; subst e2; subst e3
  exact w_J33_add_b0m C E Q S a0 a1 h

def n_J33_elementAt (S : St) (x0 : Option Nat) (x1 : Int32) : Option (Option Nat × St) :=
  (aR S x0 4 x1).bind fun v1 =>
  some (v1, S)
theorem w_J33_elementAt_b0m {K : KT} {r : Option Nat} {S1 : St} (C : GC K RJ33 cJ33_elementAt 2 2 []) (E : EL (kΓ K) (kHI K) (kl K)) (Q : GQ K (some (Jvm.ClassFile.FieldType.object "java/lang/Object")) (.inl (some (vR r))) S1) : ∀ (S : St) (x0 : Option Nat) (x1 : Int32), n_J33_elementAt S x0 x1 = some (r, S1) → G K 2 S 0 [(0, vR x0), (1, vI x1)] [] := by
  intro S x0 x1 hd
  unfold n_J33_elementAt at hd
  refine g_aload_n C dJ33_elementAt_0 rfl 0 rfl ?_
  refine g_iload_n C dJ33_elementAt_1 rfl 1 rfl ?_
  obtain ⟨v1, hv1, hd⟩ := Option.bind_eq_some_iff.mp hd
  refine g_aald C 4 (by decide) dJ33_elementAt_2 hv1 ?_
  exact g_aret C Q (Or.inl ⟨_, rfl⟩) hd dJ33_elementAt_3
theorem m_J33_elementAt {Γ : GG} {HI : St → Heap → Prop} {l : Launch} (E : EL Γ HI l) {S : St} {a0 : Option Nat} {a1 : Int32} {r : Option Nat} {S1 : St} (h : n_J33_elementAt S a0 a1 = some (r, S1)) : MS Γ HI l yJ33_elementAt cJ33_elementAt 2 (some (Jvm.ClassFile.FieldType.object "java/lang/Object")) 2 S [vR a0, vI a1] (.inl (some (vR r))) S1 := by
  refine MS_of E.ntr E.hx (by decide +kernel) rfl (Nat.le_of_ble_eq_true rfl) fun K e1 e2 e3 e4 hnm C Q => ?_
  subst e1; subst e2; subst e3
  exact w_J33_elementAt_b0m C E Q S a0 a1 h

def n_J33_pollFirst (S : St) (x0 : Option Nat) : Option (Option Nat × St) :=
  (gR S x0 14 0).bind fun v1 =>
  (gI S x0 14 1).bind fun v2 =>
  bn (n_J33_elementAt S v1 v2) fun v4 S3 =>
  if v4 = none then
    some (v4, S3)
  else
    (sR S3 v1 4 v2 none).bind fun S5 =>
    (aLn S5 v1).bind fun v6 =>
    bn (n_J33_inc S5 v2 v6) fun v8 S7 =>
    (pI .int S7 x0 14 1 v8).bind fun S9 =>
    some (v4, S9)
theorem w_J33_pollFirst_b0m {K : KT} {r : Option Nat} {S1 : St} (C : GC K RJ33 cJ33_pollFirst 4 3 []) (E : EL (kΓ K) (kHI K) (kl K)) (Q : GQ K (some (Jvm.ClassFile.FieldType.object "java/lang/Object")) (.inl (some (vR r))) S1) : ∀ (S : St) (x0 : Option Nat), n_J33_pollFirst S x0 = some (r, S1) → G K 4 S 0 [(0, vR x0)] [] := by
  intro S x0 hd
  unfold n_J33_pollFirst at hd
  refine g_aload_n C dJ33_pollFirst_0 rfl 0 rfl ?_
  obtain ⟨v1, hv1, hd⟩ := Option.bind_eq_some_iff.mp hd
  refine g_fld C gk_J33 (k := 0) (by decide) q1468 (Or.inl rfl) dJ33_pollFirst_1 (gR_v hv1) ?_
  refine g_dup C dJ33_pollFirst_4 rfl ?_
  refine g_astore_n (L' := [(1, vR v1), (0, vR x0)]) C dJ33_pollFirst_5 rfl (by decide) rfl ?_
  refine g_aload_n C dJ33_pollFirst_6 rfl 1 rfl ?_
  obtain ⟨v2, hv2, hd⟩ := Option.bind_eq_some_iff.mp hd
  refine g_fld C gk_J33 (k := 1) (by decide) q1469 (Or.inl rfl) dJ33_pollFirst_7 (gI_v hv2) ?_
  refine g_dup C dJ33_pollFirst_10 rfl ?_
  refine g_istore_n (L' := [(2, vI v2), (1, vR v1), (0, vR x0)]) C dJ33_pollFirst_11 rfl (by decide) rfl ?_
  obtain ⟨v4, S3, hc, hd⟩ := bn_some hd
  refine g_cS_v (n := 2) C q1794 q1795 q138 q1796 (by decide +kernel) (by decide) (by decide) dJ33_pollFirst_12 (As := [vR v1, vI v2]) (rest := []) rfl rfl (Nat.le_of_ble_eq_true rfl) (m_J33_elementAt E hc) ?_
  refine g_astore_n (L' := [(3, vR v4), (2, vI v2), (1, vR v1), (0, vR x0)]) C dJ33_pollFirst_15 rfl (by decide) rfl ?_
  refine g_aload_n C dJ33_pollFirst_16 rfl 0 rfl ?_
  refine g_ifnull (tgt := 34) C dJ33_pollFirst_17 (by decide) hd (fun hd => ?_) (fun hd => ?_)
  · refine g_aload_n C dJ33_pollFirst_34 rfl 0 rfl ?_
    exact g_aret C Q (Or.inl ⟨_, rfl⟩) hd dJ33_pollFirst_35
  · refine g_aload_n C dJ33_pollFirst_20 rfl 2 rfl ?_
    refine g_iload_n C dJ33_pollFirst_21 rfl 1 rfl ?_
    refine g_null C dJ33_pollFirst_22 ?_
    obtain ⟨S5, hS5, hd⟩ := Option.bind_eq_some_iff.mp hd
    refine g_aast C 4 (by decide) dJ33_pollFirst_23 hS5 ?_
    refine g_aload_n C dJ33_pollFirst_24 rfl 3 rfl ?_
    refine g_iload_n C dJ33_pollFirst_25 rfl 1 rfl ?_
    refine g_aload_n C dJ33_pollFirst_26 rfl 2 rfl ?_
    obtain ⟨v6, hv6, hd⟩ := Option.bind_eq_some_iff.mp hd
    refine g_alen C dJ33_pollFirst_27 hv6 ?_
    obtain ⟨v8, S7, hc, hd⟩ := bn_some hd
    refine g_cS_v (n := 2) C q1486 q1487 q138 q1488 (by decide +kernel) (by decide) (by decide) dJ33_pollFirst_28 (As := [vI v2, vI v6]) (rest := [vR x0]) rfl rfl (Nat.le_of_ble_eq_true rfl) (m_J33_inc E hc) ?_
    obtain ⟨S9, hS9, hd⟩ := Option.bind_eq_some_iff.mp hd
    refine g_put C gk_J33 (k := 1) (by decide) q1469 (Or.inl rfl) rfl dJ33_pollFirst_31 (gfit_ok (pI_v hS9).1).1 (gfit_ok (pI_v hS9).1).2 (pI_v hS9).2 ?_
    refine g_aload_n C dJ33_pollFirst_34 rfl 0 rfl ?_
    exact g_aret C Q (Or.inl ⟨_, rfl⟩) hd dJ33_pollFirst_35
theorem m_J33_pollFirst {Γ : GG} {HI : St → Heap → Prop} {l : Launch} (E : EL Γ HI l) {S : St} {a0 : Option Nat} {r : Option Nat} {S1 : St} (h : n_J33_pollFirst S a0 = some (r, S1)) : MS Γ HI l yJ33_pollFirst cJ33_pollFirst 4 (some (Jvm.ClassFile.FieldType.object "java/lang/Object")) 3 S [vR a0] (.inl (some (vR r))) S1 := by
  refine MS_of E.ntr E.hx (by decide +kernel) rfl (Nat.le_of_ble_eq_true rfl) fun K e1 e2 e3 e4 hnm C Q => ?_
  subst e1; subst e2; subst e3
  exact w_J33_pollFirst_b0m C E Q S a0 h

def n_J33_removeFirst (S : St) (x0 : Option Nat) : Option (Option Nat × St) :=
  gd (grc S x0 14) <|
  bn (n_J33_pollFirst S x0) fun v2 S1 =>
  if v2 = none then
    none
  else
    some (v2, S1)
theorem w_J33_removeFirst_b0m {K : KT} {r : Option Nat} {S1 : St} (C : GC K RJ33 cJ33_removeFirst 2 4 []) (E : EL (kΓ K) (kHI K) (kl K)) (Q : GQ K (some (Jvm.ClassFile.FieldType.object "java/lang/Object")) (.inl (some (vR r))) S1) : ∀ (S : St) (x0 : Option Nat), n_J33_removeFirst S x0 = some (r, S1) → G K 2 S 0 [(0, vR x0)] [] := by
  intro S x0 hd
  unfold n_J33_removeFirst at hd
  refine g_aload_n C dJ33_removeFirst_0 rfl 0 rfl ?_
  obtain ⟨hg, hd⟩ := gd_some hd
  obtain ⟨v2, S1, hc, hd⟩ := bn_some hd
  refine g_cV_v (n := 0) C (gk_J33).1 q1790 q1791 q1792 q138 q1793 (by decide +kernel) (by decide) (by decide) dJ33_removeFirst_1 (As := []) (rest := []) rfl rfl (Nat.le_of_ble_eq_true rfl) hg (m_J33_pollFirst E hc) ?_
  refine g_astore_n (L' := [(1, vR v2), (0, vR x0)]) C dJ33_removeFirst_4 rfl (by decide) rfl ?_
  refine g_aload_n C dJ33_removeFirst_5 rfl 0 rfl ?_
  refine g_ifnonnull (tgt := 17) C dJ33_removeFirst_6 (by decide) hd (fun hd => ?_) (fun hd => ?_)
  · refine g_aload_n C dJ33_removeFirst_17 rfl 0 rfl ?_
    exact g_aret C Q (Or.inl ⟨_, rfl⟩) hd dJ33_removeFirst_18
  · cases hd
theorem m_J33_removeFirst {Γ : GG} {HI : St → Heap → Prop} {l : Launch} (E : EL Γ HI l) {S : St} {a0 : Option Nat} {r : Option Nat} {S1 : St} (h : n_J33_removeFirst S a0 = some (r, S1)) : MS Γ HI l yJ33_removeFirst cJ33_removeFirst 2 (some (Jvm.ClassFile.FieldType.object "java/lang/Object")) 4 S [vR a0] (.inl (some (vR r))) S1 := by
  refine MS_of E.ntr E.hx (by decide +kernel) rfl (Nat.le_of_ble_eq_true rfl) fun K e1 e2 e3 e4 hnm C Q => ?_
  subst e1; subst e2; subst e3
  exact w_J33_removeFirst_b0m C E Q S a0 h

def n_J33_contains_b35 : Nat → St → Option Nat → Option Nat → Int32 → Int32 → Int32 → Option (Int32 × St)
  | 0 => fun _ _ _ _ _ _ => none
  | n + 1 => fun S x1 x2 x3 x4 x5 =>
    if x5 ≤ x3 then
      if x5 = x4 then
        rtI id (Jvm.ClassFile.FieldType.boolean) (0 : Int32) S
      else
        (n_J33_contains_b35 n) S x1 x2 (0 : Int32) x4 x4
    else
      (aR S x2 4 x3).bind fun v1 =>
      gd (grc S x1 1) <|
      bn (n_J35_equals S x1 v1) fun v3 S2 =>
      if v3 = 0 then
        (n_J33_contains_b35 n) S2 x1 x2 (x3 + 1) x4 x5
      else
        rtI id (Jvm.ClassFile.FieldType.boolean) (1 : Int32) S2
def n_J33_contains_b33 (S : St) (x1 : Option Nat) (x2 : Option Nat) (x3 : Int32) (x4 : Int32) (y0 : Int32) : Option (Int32 × St) :=
  n_J33_contains_b35 FU S x1 x2 x3 x4 y0
def n_J33_contains (S : St) (x0 : Option Nat) (x1 : Option Nat) : Option (Int32 × St) :=
  if x1 = none then
    rtI id (Jvm.ClassFile.FieldType.boolean) (0 : Int32) S
  else
    (gR S x0 14 0).bind fun v1 =>
    (gI S x0 14 1).bind fun v2 =>
    (gI S x0 14 2).bind fun v3 =>
    if v3 < v2 then
      (aLn S v1).bind fun v4 =>
      n_J33_contains_b33 S x1 v1 v2 v3 v4
    else
      n_J33_contains_b33 S x1 v1 v2 v3 v3
theorem w_J33_contains_b35 {K : KT} {r : Int32} {S1 : St} (C : GC K RJ33 cJ33_contains 6 3 []) (E : EL (kΓ K) (kHI K) (kl K)) (Q : GQ K (some (Jvm.ClassFile.FieldType.boolean)) (.inl (some (vI r))) S1) : ∀ (n : Nat) (S : St) (x1 : Option Nat) (x2 : Option Nat) (x3 : Int32) (x4 : Int32) (x5 : Int32), n_J33_contains_b35 n S x1 x2 x3 x4 x5 = some (r, S1) → G K 6 S 35 [(1, vR x1), (2, vR x2), (3, vI x3), (4, vI x4), (5, vI x5)] [] := by
  intro n
  induction n with
  | zero => intro S x1 x2 x3 x4 x5 hd; cases hd
  | succ n ih =>
    intro S x1 x2 x3 x4 x5 hd
    unfold n_J33_contains_b35 at hd
    refine g_iload_n C dJ33_contains_35 rfl 2 rfl ?_
    refine g_iload C dJ33_contains_36 4 rfl ?_
    refine g_icmp_ge (tgt := 59) C dJ33_contains_38 (by decide) hd (fun hd => ?_) (fun hd => ?_)
    · refine g_iload C dJ33_contains_59 4 rfl ?_
      refine g_iload C dJ33_contains_61 3 rfl ?_
      refine g_icmp_ne (tgt := 69) C dJ33_contains_63 (by decide) hd (fun hd => ?_) (fun hd => ?_)
      · refine g_iconst (v := 0) C dJ33_contains_69 (by decide) ?_
        refine g_istore_n (L' := [(3, vI (0 : Int32)), (1, vR x1), (2, vR x2), (4, vI x4), (5, vI x5)]) C dJ33_contains_70 rfl (by decide) rfl ?_
        refine g_iload C dJ33_contains_71 3 rfl ?_
        refine g_istore (L' := [(5, vI x4), (3, vI (0 : Int32)), (1, vR x1), (2, vR x2), (4, vI x4)]) C dJ33_contains_73 (by decide) rfl ?_
        refine g_goto (tgt := 35) C dJ33_contains_75 (by decide) ?_
        refine g_sub [2, 3, 1, 4, 0] rfl ?_
        exact ih _ _ _ _ _ _ hd
      · refine g_goto (tgt := 78) C dJ33_contains_66 (by decide) ?_
        refine g_iconst (v := 0) C dJ33_contains_78 (by decide) ?_
        exact g_iret C Q hd dJ33_contains_79
    · refine g_aload_n C dJ33_contains_41 rfl 0 rfl ?_
      refine g_aload_n C dJ33_contains_42 rfl 1 rfl ?_
      refine g_iload_n C dJ33_contains_43 rfl 2 rfl ?_
      obtain ⟨v1, hv1, hd⟩ := Option.bind_eq_some_iff.mp hd
      refine g_aald C 4 (by decide) dJ33_contains_44 hv1 ?_
      obtain ⟨hg, hd⟩ := gd_some hd
      obtain ⟨v3, S2, hc, hd⟩ := bn_some hd
      refine g_cU_v (n := 1) C (gk_X2).1 q1801 q1604 q1603 q1608 q2423 q1636 rfl (by decide +kernel) (by decide) (by decide) dJ33_contains_45 (As := [vR v1]) (rest := []) rfl rfl (Nat.le_of_ble_eq_true rfl) hg (m_J35_equals E hc) ?_
      refine g_if_eq (tgt := 53) C dJ33_contains_48 (by decide) hd (fun hd => ?_) (fun hd => ?_)
      · refine g_iinc (v := x3 + 1) (L' := [(3, vI (x3 + 1)), (1, vR x1), (2, vR x2), (4, vI x4), (5, vI x5)]) C dJ33_contains_53 2 rfl rfl (by decide) rfl ?_
        refine g_goto (tgt := 35) C dJ33_contains_56 (by decide) ?_
        refine g_sub [1, 2, 0, 3, 4] rfl ?_
        exact ih _ _ _ _ _ _ hd
      · refine g_iconst (v := 1) C dJ33_contains_51 (by decide) ?_
        exact g_iret C Q hd dJ33_contains_52
theorem w_J33_contains_b33 {K : KT} {r : Int32} {S1 : St} (C : GC K RJ33 cJ33_contains 6 3 []) (E : EL (kΓ K) (kHI K) (kl K)) (Q : GQ K (some (Jvm.ClassFile.FieldType.boolean)) (.inl (some (vI r))) S1) : ∀ (S : St) (x1 : Option Nat) (x2 : Option Nat) (x3 : Int32) (x4 : Int32) (y0 : Int32), n_J33_contains_b33 S x1 x2 x3 x4 y0 = some (r, S1) → G K 6 S 33 [(1, vR x1), (2, vR x2), (3, vI x3), (4, vI x4)] [vI y0] := by
  intro S x1 x2 x3 x4 y0 hd
  unfold n_J33_contains_b33 at hd
  refine g_istore (L' := [(5, vI y0), (1, vR x1), (2, vR x2), (3, vI x3), (4, vI x4)]) C dJ33_contains_33 (by decide) rfl ?_
  refine g_sub [1, 2, 3, 4, 0] rfl ?_
  exact w_J33_contains_b35 C E Q FU _ _ _ _ _ _ hd
theorem w_J33_contains_b0m {K : KT} {r : Int32} {S1 : St} (C : GC K RJ33 cJ33_contains 6 3 []) (E : EL (kΓ K) (kHI K) (kl K)) (Q : GQ K (some (Jvm.ClassFile.FieldType.boolean)) (.inl (some (vI r))) S1) : ∀ (S : St) (x0 : Option Nat) (x1 : Option Nat), n_J33_contains S x0 x1 = some (r, S1) → G K 6 S 0 [(0, vR x0), (1, vR x1)] [] := by
  intro S x0 x1 hd
  unfold n_J33_contains at hd
  refine g_aload_n C dJ33_contains_0 rfl 1 rfl ?_
  refine g_ifnull (tgt := 78) C dJ33_contains_1 (by decide) hd (fun hd => ?_) (fun hd => ?_)
  · refine g_iconst (v := 0) C dJ33_contains_78 (by decide) ?_
    exact g_iret C Q hd dJ33_contains_79
  · refine g_aload_n C dJ33_contains_4 rfl 0 rfl ?_
    obtain ⟨v1, hv1, hd⟩ := Option.bind_eq_some_iff.mp hd
    refine g_fld C gk_J33 (k := 0) (by decide) q1468 (Or.inl rfl) dJ33_contains_5 (gR_v hv1) ?_
    refine g_astore_n (L' := [(2, vR v1), (0, vR x0), (1, vR x1)]) C dJ33_contains_8 rfl (by decide) rfl ?_
    refine g_aload_n C dJ33_contains_9 rfl 1 rfl ?_
    obtain ⟨v2, hv2, hd⟩ := Option.bind_eq_some_iff.mp hd
    refine g_fld C gk_J33 (k := 1) (by decide) q1469 (Or.inl rfl) dJ33_contains_10 (gI_v hv2) ?_
    refine g_istore_n (L' := [(3, vI v2), (2, vR v1), (0, vR x0), (1, vR x1)]) C dJ33_contains_13 rfl (by decide) rfl ?_
    refine g_aload_n C dJ33_contains_14 rfl 2 rfl ?_
    obtain ⟨v3, hv3, hd⟩ := Option.bind_eq_some_iff.mp hd
    refine g_fld C gk_J33 (k := 2) (by decide) q1470 (Or.inl rfl) dJ33_contains_15 (gI_v hv3) ?_
    refine g_istore (L' := [(4, vI v3), (3, vI v2), (2, vR v1), (0, vR x0), (1, vR x1)]) C dJ33_contains_18 (by decide) rfl ?_
    refine g_iload_n C dJ33_contains_20 rfl 1 rfl ?_
    refine g_iload C dJ33_contains_21 0 rfl ?_
    refine g_icmp_gt (tgt := 31) C dJ33_contains_23 (by decide) hd (fun hd => ?_) (fun hd => ?_)
    · refine g_aload_n C dJ33_contains_31 rfl 2 rfl ?_
      obtain ⟨v4, hv4, hd⟩ := Option.bind_eq_some_iff.mp hd
      refine g_alen C dJ33_contains_32 hv4 ?_
      refine g_sub [4, 2, 1, 0] rfl ?_
      exact w_J33_contains_b33 C E Q _ _ _ _ _ _ hd
    · refine g_iload C dJ33_contains_26 0 rfl ?_
      refine g_goto (tgt := 33) C dJ33_contains_28 (by decide) ?_
      refine g_sub [4, 2, 1, 0] rfl ?_
      exact w_J33_contains_b33 C E Q _ _ _ _ _ _ hd
theorem m_J33_contains {Γ : GG} {HI : St → Heap → Prop} {l : Launch} (E : EL Γ HI l) {S : St} {a0 : Option Nat} {a1 : Option Nat} {r : Int32} {S1 : St} (h : n_J33_contains S a0 a1 = some (r, S1)) : MS Γ HI l yJ33_contains cJ33_contains 6 (some (Jvm.ClassFile.FieldType.boolean)) 3 S [vR a0, vR a1] (.inl (some (vI r))) S1 := by
  refine MS_of E.ntr E.hx (by decide +kernel) rfl (Nat.le_of_ble_eq_true rfl) fun K e1 e2 e3 e4 hnm C Q => ?_
  subst e1; subst e2; subst e3
  exact w_J33_contains_b0m C E Q S a0 a1 h

def n_J33_isEmpty (S : St) (x0 : Option Nat) : Option (Int32 × St) :=
  (gI S x0 14 1).bind fun v1 =>
  (gI S x0 14 2).bind fun v2 =>
  if v1 = v2 then
    rtI id (Jvm.ClassFile.FieldType.boolean) (1 : Int32) S
  else
    rtI id (Jvm.ClassFile.FieldType.boolean) (0 : Int32) S
theorem w_J33_isEmpty_b0m {K : KT} {r : Int32} {S1 : St} (C : GC K RJ33 cJ33_isEmpty 1 2 []) (E : EL (kΓ K) (kHI K) (kl K)) (Q : GQ K (some (Jvm.ClassFile.FieldType.boolean)) (.inl (some (vI r))) S1) : ∀ (S : St) (x0 : Option Nat), n_J33_isEmpty S x0 = some (r, S1) → G K 1 S 0 [(0, vR x0)] [] := by
  intro S x0 hd
  unfold n_J33_isEmpty at hd
  refine g_aload_n C dJ33_isEmpty_0 rfl 0 rfl ?_
  obtain ⟨v1, hv1, hd⟩ := Option.bind_eq_some_iff.mp hd
  refine g_fld C gk_J33 (k := 1) (by decide) q1469 (Or.inl rfl) dJ33_isEmpty_1 (gI_v hv1) ?_
  refine g_aload_n C dJ33_isEmpty_4 rfl 0 rfl ?_
  obtain ⟨v2, hv2, hd⟩ := Option.bind_eq_some_iff.mp hd
  refine g_fld C gk_J33 (k := 2) (by decide) q1470 (Or.inl rfl) dJ33_isEmpty_5 (gI_v hv2) ?_
  refine g_icmp_ne (tgt := 15) C dJ33_isEmpty_8 (by decide) hd (fun hd => ?_) (fun hd => ?_)
  · refine g_iconst (v := 0) C dJ33_isEmpty_15 (by decide) ?_
    exact g_iret C Q hd dJ33_isEmpty_16
  · refine g_iconst (v := 1) C dJ33_isEmpty_11 (by decide) ?_
    refine g_goto (tgt := 16) C dJ33_isEmpty_12 (by decide) ?_
    exact g_iret C Q hd dJ33_isEmpty_16
theorem m_J33_isEmpty {Γ : GG} {HI : St → Heap → Prop} {l : Launch} (E : EL Γ HI l) {S : St} {a0 : Option Nat} {r : Int32} {S1 : St} (h : n_J33_isEmpty S a0 = some (r, S1)) : MS Γ HI l yJ33_isEmpty cJ33_isEmpty 1 (some (Jvm.ClassFile.FieldType.boolean)) 2 S [vR a0] (.inl (some (vI r))) S1 := by
  refine MS_of E.ntr E.hx (by decide +kernel) rfl (Nat.le_of_ble_eq_true rfl) fun K e1 e2 e3 e4 hnm C Q => ?_
  subst e1; subst e2; subst e3
  exact w_J33_isEmpty_b0m C E Q S a0 h

def n_J0_isEmpty (S : St) (x0 : Option Nat) : Option (Int32 × St) :=
  gd (grc S x0 9) <|
  bn (n_J4_size S x0) fun v2 S1 =>
  if v2 = 0 then
    rtI id (Jvm.ClassFile.FieldType.boolean) (1 : Int32) S1
  else
    rtI id (Jvm.ClassFile.FieldType.boolean) (0 : Int32) S1
theorem w_J0_isEmpty_b0m {K : KT} {r : Int32} {S1 : St} (C : GC K RJ0 cJ0_isEmpty 1 3 []) (E : EL (kΓ K) (kHI K) (kl K)) (Q : GQ K (some (Jvm.ClassFile.FieldType.boolean)) (.inl (some (vI r))) S1) : ∀ (S : St) (x0 : Option Nat), n_J0_isEmpty S x0 = some (r, S1) → G K 1 S 0 [(0, vR x0)] [] := by
  intro S x0 hd
  unfold n_J0_isEmpty at hd
  refine g_aload_n C dJ0_isEmpty_0 rfl 0 rfl ?_
  obtain ⟨hg, hd⟩ := gd_some hd
  obtain ⟨v2, S1, hc, hd⟩ := bn_some hd
  refine g_cA_v (n := 0) C (gk_J4).1 q1062 q2418 q437 q2421 q100 q439 q936 (by decide +kernel) (by decide) (by decide) dJ0_isEmpty_1 (As := []) (rest := []) rfl rfl (Nat.le_of_ble_eq_true rfl) hg (m_J4_size E hc) ?_
  refine g_if_ne (tgt := 11) C dJ0_isEmpty_4 (by decide) hd (fun hd => ?_) (fun hd => ?_)
  · refine g_iconst (v := 0) C dJ0_isEmpty_11 (by decide) ?_
    exact g_iret C Q hd dJ0_isEmpty_12
  · refine g_iconst (v := 1) C dJ0_isEmpty_7 (by decide) ?_
    refine g_goto (tgt := 12) C dJ0_isEmpty_8 (by decide) ?_
    exact g_iret C Q hd dJ0_isEmpty_12
theorem m_J0_isEmpty {Γ : GG} {HI : St → Heap → Prop} {l : Launch} (E : EL Γ HI l) {S : St} {a0 : Option Nat} {r : Int32} {S1 : St} (h : n_J0_isEmpty S a0 = some (r, S1)) : MS Γ HI l yJ0_isEmpty cJ0_isEmpty 1 (some (Jvm.ClassFile.FieldType.boolean)) 3 S [vR a0] (.inl (some (vI r))) S1 := by
  refine MS_of E.ntr E.hx (by decide +kernel) rfl (Nat.le_of_ble_eq_true rfl) fun K e1 e2 e3 e4 hnm C Q => ?_
  subst e1; subst e2; subst e3
  exact w_J0_isEmpty_b0m C E Q S a0 h
