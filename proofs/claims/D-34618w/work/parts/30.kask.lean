/-! the keeper: answers, answersAnew, answer_2, closest -/
def n_X1_folderOr_b29 (S : St) (x0 : Option Nat) (x1 : Int32) (y0 : Int32) : Option ((Option Nat ⊕ String) × St) :=
  tbn (n_X1_need S y0) fun _ S1 =>
  if x1 = (-1 : Int32) then
    some (Sum.inl none, S1)
  else
    (gR S1 x0 0 0).bind fun v3 =>
    gd (grc S1 v3 8) <|
    bn (h_J2_get S1 v3 x1) fun v5 S4 =>
    gd (gcst S4 v5 1) <|
    some (Sum.inl v5, S4)
def n_X1_folderOr_b24 (S : St) (x0 : Option Nat) (x1 : Int32) : Option ((Option Nat ⊕ String) × St) :=
  n_X1_folderOr_b29 S x0 x1 (1 : Int32)
def n_X1_folderOr (S : St) (x0 : Option Nat) (x1 : Int32) : Option ((Option Nat ⊕ String) × St) :=
  if x1 = (-1 : Int32) then
    n_X1_folderOr_b24 S x0 x1
  else
    (gR S x0 0 0).bind fun v1 =>
    gd (grc S v1 8) <|
    bn (h_J2_size S v1) fun v3 S2 =>
    bn (n_X1_isIn S2 x1 (0 : Int32) (v3 - (1 : Int32))) fun v5 S4 =>
    if v5 = 0 then
      n_X1_folderOr_b29 S4 x0 x1 (0 : Int32)
    else
      n_X1_folderOr_b24 S4 x0 x1
theorem w_X1_folderOr_b29 {K : KT} {r : (Option Nat ⊕ String)} {S1 : St} (C : GC K RX1 cX1_folderOr 2 9 []) (E : EH (kΓ K) (kHI K) (kl K)) (Q : GQ K (some (Jvm.ClassFile.FieldType.object "SearchKeeper$Node")) (resR r) S1) : ∀ (S : St) (x0 : Option Nat) (x1 : Int32) (y0 : Int32), n_X1_folderOr_b29 S x0 x1 y0 = some (r, S1) → G K 2 S 29 [(0, vR x0), (1, vI x1)] [vI y0] := by
  intro S x0 x1 y0 hd
  unfold n_X1_folderOr_b29 at hd
  rcases tbn_some hd with ⟨X9, S1, hc, hz⟩ | ⟨_, S1, hc, hd⟩
  · cases hz; exact g_cS_x (n := 1) C q1133 q1134 q95 q1135 (by decide +kernel) (by decide) (by decide) dX1_folderOr_29 (As := [vI y0]) (rest := []) rfl rfl (Nat.le_of_ble_eq_true rfl) (m_X1_need E hc) (g_out C Q)
  refine g_cS_n (n := 1) C q1133 q1134 q95 q1135 (by decide +kernel) (by decide) (by decide) dX1_folderOr_29 (As := [vI y0]) (rest := []) rfl rfl (Nat.le_of_ble_eq_true rfl) (m_X1_need E hc) ?_
  refine g_iload_n C dX1_folderOr_32 rfl 1 rfl ?_
  refine g_iconst (v := (-1)) C dX1_folderOr_33 (by decide) ?_
  refine g_icmp_ne (tgt := 41) C dX1_folderOr_34 (by decide) hd (fun hd => ?_) (fun hd => ?_)
  · refine g_aload_n C dX1_folderOr_41 rfl 0 rfl ?_
    obtain ⟨v3, hv3, hd⟩ := Option.bind_eq_some_iff.mp hd
    refine g_fld C gk_X1 (k := 0) (by decide) q385 (Or.inl rfl) dX1_folderOr_42 (gR_v hv3) ?_
    refine g_iload_n C dX1_folderOr_45 rfl 1 rfl ?_
    obtain ⟨hg, hd⟩ := gd_some hd
    obtain ⟨v5, S4, hc, hd⟩ := bn_some hd
    refine g_cF_v (n := 1) C (gk_J2).1 q441 q446 q444 q98 q448 (List.mem_of_getElem? (i := 2) rfl) (by decide +kernel) (by decide) (by decide) dX1_folderOr_46 (As := [vI x1]) (rest := []) rfl rfl (Nat.le_of_ble_eq_true rfl) hg (mh_J2_get E hc) ?_
    refine g_cast C (gk_X2).1 q231 dX1_folderOr_51 hd (fun hd => ?_)
    exact g_aretT C Q (Or.inl ⟨_, rfl⟩) hd dX1_folderOr_54
  · refine g_null C dX1_folderOr_37 ?_
    refine g_goto (tgt := 54) C dX1_folderOr_38 (by decide) ?_
    exact g_aretT C Q (Or.inl ⟨_, rfl⟩) hd dX1_folderOr_54
theorem w_X1_folderOr_b24 {K : KT} {r : (Option Nat ⊕ String)} {S1 : St} (C : GC K RX1 cX1_folderOr 2 9 []) (E : EH (kΓ K) (kHI K) (kl K)) (Q : GQ K (some (Jvm.ClassFile.FieldType.object "SearchKeeper$Node")) (resR r) S1) : ∀ (S : St) (x0 : Option Nat) (x1 : Int32), n_X1_folderOr_b24 S x0 x1 = some (r, S1) → G K 2 S 24 [(0, vR x0), (1, vI x1)] [] := by
  intro S x0 x1 hd
  unfold n_X1_folderOr_b24 at hd
  refine g_iconst (v := 1) C dX1_folderOr_24 (by decide) ?_
  refine g_goto (tgt := 29) C dX1_folderOr_25 (by decide) ?_
  refine g_sub [0, 1] rfl ?_
  exact w_X1_folderOr_b29 C E Q _ _ _ _ hd
theorem w_X1_folderOr_b0m {K : KT} {r : (Option Nat ⊕ String)} {S1 : St} (C : GC K RX1 cX1_folderOr 2 9 []) (E : EH (kΓ K) (kHI K) (kl K)) (Q : GQ K (some (Jvm.ClassFile.FieldType.object "SearchKeeper$Node")) (resR r) S1) : ∀ (S : St) (x0 : Option Nat) (x1 : Int32), n_X1_folderOr S x0 x1 = some (r, S1) → G K 2 S 0 [(0, vR x0), (1, vI x1)] [] := by
  intro S x0 x1 hd
  unfold n_X1_folderOr at hd
  refine g_iload_n C dX1_folderOr_0 rfl 1 rfl ?_
  refine g_iconst (v := (-1)) C dX1_folderOr_1 (by decide) ?_
  refine g_icmp_eq (tgt := 24) C dX1_folderOr_2 (by decide) hd (fun hd => ?_) (fun hd => ?_)
  · refine g_sub [0, 1] rfl ?_
    exact w_X1_folderOr_b24 C E Q _ _ _ hd
  · refine g_iload_n C dX1_folderOr_5 rfl 1 rfl ?_
    refine g_iconst (v := 0) C dX1_folderOr_6 (by decide) ?_
    refine g_aload_n C dX1_folderOr_7 rfl 0 rfl ?_
    obtain ⟨v1, hv1, hd⟩ := Option.bind_eq_some_iff.mp hd
    refine g_fld C gk_X1 (k := 0) (by decide) q385 (Or.inl rfl) dX1_folderOr_8 (gR_v hv1) ?_
    obtain ⟨hg, hd⟩ := gd_some hd
    obtain ⟨v3, S2, hc, hd⟩ := bn_some hd
    refine g_cF_v (n := 0) C (gk_J2).1 q427 q432 q430 q98 q434 (List.mem_of_getElem? (i := 1) rfl) (by decide +kernel) (by decide) (by decide) dX1_folderOr_11 (As := []) (rest := [vI (0 : Int32), vI x1]) rfl rfl (Nat.le_of_ble_eq_true rfl) hg (mh_J2_size E hc) ?_
    refine g_iconst (v := 1) C dX1_folderOr_16 (by decide) ?_
    refine g_isub C dX1_folderOr_17 ?_
    obtain ⟨v5, S4, hc, hd⟩ := bn_some hd
    refine g_cS_v (n := 3) C q1130 q1131 q95 q1132 (by decide +kernel) (by decide) (by decide) dX1_folderOr_18 (As := [vI x1, vI (0 : Int32), vI (v3 - (1 : Int32))]) (rest := []) rfl rfl (Nat.le_of_ble_eq_true rfl) (m_X1_isIn E hc) ?_
    refine g_if_eq (tgt := 28) C dX1_folderOr_21 (by decide) hd (fun hd => ?_) (fun hd => ?_)
    · refine g_iconst (v := 0) C dX1_folderOr_28 (by decide) ?_
      refine g_sub [0, 1] rfl ?_
      exact w_X1_folderOr_b29 C E Q _ _ _ _ hd
    · refine g_sub [0, 1] rfl ?_
      exact w_X1_folderOr_b24 C E Q _ _ _ hd
theorem m_X1_folderOr {Γ : GG} {HI : St → Heap → Prop} {l : Launch} (E : EH Γ HI l) {S : St} {a0 : Option Nat} {a1 : Int32} {r : (Option Nat ⊕ String)} {S1 : St} (h : n_X1_folderOr S a0 a1 = some (r, S1)) : MS Γ HI l yX1_folderOr cX1_folderOr 2 (some (Jvm.ClassFile.FieldType.object "SearchKeeper$Node")) 9 S [vR a0, vI a1] (resR r) S1 := by
  refine MS_of E.ntr E.hx (by decide +kernel) rfl (Nat.le_of_ble_eq_true rfl) fun K e1 e2 e3 e4 hnm C Q => ?_
  subst e1; subst e2; subst e3
  exact w_X1_folderOr_b0m C E Q S a0 a1 h

def n_X1_checkWords_b24 (S : St) (y0 : Int32) : Option ((Unit ⊕ String) × St) :=
  tbn (n_X1_check S y0) fun _ S1 =>
  some (Sum.inl (), S1)
def n_X1_checkWords_b19 (S : St) : Option ((Unit ⊕ String) × St) :=
  n_X1_checkWords_b24 S (1 : Int32)
def n_X1_checkWords_b23 (S : St) : Option ((Unit ⊕ String) × St) :=
  n_X1_checkWords_b24 S (0 : Int32)
def n_X1_checkWords (S : St) (x0 : Int32) (x1 : Int32) : Option ((Unit ⊕ String) × St) :=
  bn (n_X1_isWord S x0) fun v2 S1 =>
  if v2 = 0 then
    n_X1_checkWords_b23 S1
  else
    if x1 = (-1 : Int32) then
      n_X1_checkWords_b19 S1
    else
      bn (n_X1_isWord S1 x1) fun v4 S3 =>
      if v4 = 0 then
        n_X1_checkWords_b23 S3
      else
        n_X1_checkWords_b19 S3
theorem w_X1_checkWords_b24 {K : KT} {r : (Unit ⊕ String)} {S1 : St} (C : GC K RX1 cX1_checkWords 2 9 []) (E : EH (kΓ K) (kHI K) (kl K)) (Q : GQ K none (resV r) S1) : ∀ (S : St) (y0 : Int32), n_X1_checkWords_b24 S y0 = some (r, S1) → G K 2 S 24 [] [vI y0] := by
  intro S y0 hd
  unfold n_X1_checkWords_b24 at hd
  rcases tbn_some hd with ⟨X9, S1, hc, hz⟩ | ⟨_, S1, hc, hd⟩
  · cases hz; exact g_cS_x (n := 1) C q1150 q1151 q95 q1152 (by decide +kernel) (by decide) (by decide) dX1_checkWords_24 (As := [vI y0]) (rest := []) rfl rfl (Nat.le_of_ble_eq_true rfl) (m_X1_check E hc) (g_out C Q)
  refine g_cS_n (n := 1) C q1150 q1151 q95 q1152 (by decide +kernel) (by decide) (by decide) dX1_checkWords_24 (As := [vI y0]) (rest := []) rfl rfl (Nat.le_of_ble_eq_true rfl) (m_X1_check E hc) ?_
  exact g_vretT C Q hd dX1_checkWords_27
theorem w_X1_checkWords_b19 {K : KT} {r : (Unit ⊕ String)} {S1 : St} (C : GC K RX1 cX1_checkWords 2 9 []) (E : EH (kΓ K) (kHI K) (kl K)) (Q : GQ K none (resV r) S1) : ∀ (S : St), n_X1_checkWords_b19 S = some (r, S1) → G K 2 S 19 [] [] := by
  intro S hd
  unfold n_X1_checkWords_b19 at hd
  refine g_iconst (v := 1) C dX1_checkWords_19 (by decide) ?_
  refine g_goto (tgt := 24) C dX1_checkWords_20 (by decide) ?_
  refine g_sub [] rfl ?_
  exact w_X1_checkWords_b24 C E Q _ _ hd
theorem w_X1_checkWords_b23 {K : KT} {r : (Unit ⊕ String)} {S1 : St} (C : GC K RX1 cX1_checkWords 2 9 []) (E : EH (kΓ K) (kHI K) (kl K)) (Q : GQ K none (resV r) S1) : ∀ (S : St), n_X1_checkWords_b23 S = some (r, S1) → G K 2 S 23 [] [] := by
  intro S hd
  unfold n_X1_checkWords_b23 at hd
  refine g_iconst (v := 0) C dX1_checkWords_23 (by decide) ?_
  refine g_sub [] rfl ?_
  exact w_X1_checkWords_b24 C E Q _ _ hd
theorem w_X1_checkWords_b0m {K : KT} {r : (Unit ⊕ String)} {S1 : St} (C : GC K RX1 cX1_checkWords 2 9 []) (E : EH (kΓ K) (kHI K) (kl K)) (Q : GQ K none (resV r) S1) : ∀ (S : St) (x0 : Int32) (x1 : Int32), n_X1_checkWords S x0 x1 = some (r, S1) → G K 2 S 0 [(0, vI x0), (1, vI x1)] [] := by
  intro S x0 x1 hd
  unfold n_X1_checkWords at hd
  refine g_iload_n C dX1_checkWords_0 rfl 0 rfl ?_
  obtain ⟨v2, S1, hc, hd⟩ := bn_some hd
  refine g_cS_v (n := 1) C q1225 q1226 q95 q1227 (by decide +kernel) (by decide) (by decide) dX1_checkWords_1 (As := [vI x0]) (rest := []) rfl rfl (Nat.le_of_ble_eq_true rfl) (m_X1_isWord E hc) ?_
  refine g_if_eq (tgt := 23) C dX1_checkWords_4 (by decide) hd (fun hd => ?_) (fun hd => ?_)
  · refine g_sub [] rfl ?_
    exact w_X1_checkWords_b23 C E Q _ hd
  · refine g_iload_n C dX1_checkWords_7 rfl 1 rfl ?_
    refine g_iconst (v := (-1)) C dX1_checkWords_8 (by decide) ?_
    refine g_icmp_eq (tgt := 19) C dX1_checkWords_9 (by decide) hd (fun hd => ?_) (fun hd => ?_)
    · refine g_sub [] rfl ?_
      exact w_X1_checkWords_b19 C E Q _ hd
    · refine g_iload_n C dX1_checkWords_12 rfl 1 rfl ?_
      obtain ⟨v4, S3, hc, hd⟩ := bn_some hd
      refine g_cS_v (n := 1) C q1225 q1226 q95 q1227 (by decide +kernel) (by decide) (by decide) dX1_checkWords_13 (As := [vI x1]) (rest := []) rfl rfl (Nat.le_of_ble_eq_true rfl) (m_X1_isWord E hc) ?_
      refine g_if_eq (tgt := 23) C dX1_checkWords_16 (by decide) hd (fun hd => ?_) (fun hd => ?_)
      · refine g_sub [] rfl ?_
        exact w_X1_checkWords_b23 C E Q _ hd
      · refine g_sub [] rfl ?_
        exact w_X1_checkWords_b19 C E Q _ hd
theorem m_X1_checkWords {Γ : GG} {HI : St → Heap → Prop} {l : Launch} (E : EH Γ HI l) {S : St} {a0 : Int32} {a1 : Int32} {r : (Unit ⊕ String)} {S1 : St} (h : n_X1_checkWords S a0 a1 = some (r, S1)) : MS Γ HI l yX1_checkWords cX1_checkWords 2 none 9 S [vI a0, vI a1] (resV r) S1 := by
  refine MS_of E.ntr E.hx (by decide +kernel) rfl (Nat.le_of_ble_eq_true rfl) fun K e1 e2 e3 e4 hnm C Q => ?_
  subst e1; subst e2; subst e3
  exact w_X1_checkWords_b0m C E Q S a0 a1 h

def n_X1_count_b37 (k4 : St → Option Nat → Int32 → Int32 → Int32 → Option (Int32 × St)) (S : St) (x0 : Option Nat) (x1 : Int32) (x3 : Int32) (y0 : Int32) (y1 : Int32) : Option (Int32 × St) :=
  k4 S x0 x1 (y1 + y0) (x3 + 1)
def n_X1_count_b4 : Nat → St → Option Nat → Int32 → Int32 → Int32 → Option (Int32 × St)
  | 0 => fun _ _ _ _ _ => none
  | n + 1 => fun S x0 x1 x2 x3 =>
    gd (grc S x0 8) <|
    bn (h_J2_size S x0) fun v2 S1 =>
    if v2 ≤ x3 then
      rtI id (Jvm.ClassFile.FieldType.int) x2 S1
    else
      gd (grc S1 x0 8) <|
      bn (h_J2_get S1 x0 x3) fun v4 S3 =>
      gd (gcst S3 v4 16) <|
      gd (grc S3 v4 16) <|
      bn (n_J23_intValue S3 v4) fun v6 S5 =>
      if v6 = x1 then
        n_X1_count_b37 (n_X1_count_b4 n) S5 x0 x1 x3 (1 : Int32) x2
      else
        n_X1_count_b37 (n_X1_count_b4 n) S5 x0 x1 x3 (0 : Int32) x2
def n_X1_count (S : St) (x0 : Option Nat) (x1 : Int32) : Option (Int32 × St) :=
  n_X1_count_b4 FU S x0 x1 (0 : Int32) (0 : Int32)
theorem w_X1_count_b37 {K : KT} {r : Int32} {S1 : St} (C : GC K RX1 cX1_count 4 5 []) (E : EH (kΓ K) (kHI K) (kl K)) (Q : GQ K (some (Jvm.ClassFile.FieldType.int)) (.inl (some (vI r))) S1) {k4 : St → Option Nat → Int32 → Int32 → Int32 → Option (Int32 × St)} (h4 : ∀ (S : St) (x0 : Option Nat) (x1 : Int32) (x2 : Int32) (x3 : Int32), k4 S x0 x1 x2 x3 = some (r, S1) → G K 4 S 4 [(0, vR x0), (1, vI x1), (2, vI x2), (3, vI x3)] []) : ∀ (S : St) (x0 : Option Nat) (x1 : Int32) (x3 : Int32) (y0 : Int32) (y1 : Int32), n_X1_count_b37 k4 S x0 x1 x3 y0 y1 = some (r, S1) → G K 4 S 37 [(0, vR x0), (1, vI x1), (3, vI x3)] [vI y0, vI y1] := by
  intro S x0 x1 x3 y0 y1 hd
  unfold n_X1_count_b37 at hd
  refine g_iadd C dX1_count_37 ?_
  refine g_istore_n (L' := [(2, vI (y1 + y0)), (0, vR x0), (1, vI x1), (3, vI x3)]) C dX1_count_38 rfl (by decide) rfl ?_
  refine g_iinc (v := x3 + 1) (L' := [(3, vI (x3 + 1)), (2, vI (y1 + y0)), (0, vR x0), (1, vI x1)]) C dX1_count_39 3 rfl rfl (by decide) rfl ?_
  refine g_goto (tgt := 4) C dX1_count_42 (by decide) ?_
  refine g_sub [2, 3, 1, 0] rfl ?_
  exact h4 _ _ _ _ _ hd
theorem w_X1_count_b4 {K : KT} {r : Int32} {S1 : St} (C : GC K RX1 cX1_count 4 5 []) (E : EH (kΓ K) (kHI K) (kl K)) (Q : GQ K (some (Jvm.ClassFile.FieldType.int)) (.inl (some (vI r))) S1) : ∀ (n : Nat) (S : St) (x0 : Option Nat) (x1 : Int32) (x2 : Int32) (x3 : Int32), n_X1_count_b4 n S x0 x1 x2 x3 = some (r, S1) → G K 4 S 4 [(0, vR x0), (1, vI x1), (2, vI x2), (3, vI x3)] [] := by
  intro n
  induction n with
  | zero => intro S x0 x1 x2 x3 hd; cases hd
  | succ n ih =>
    intro S x0 x1 x2 x3 hd
    unfold n_X1_count_b4 at hd
    refine g_iload_n C dX1_count_4 rfl 3 rfl ?_
    refine g_aload_n C dX1_count_5 rfl 0 rfl ?_
    obtain ⟨hg, hd⟩ := gd_some hd
    obtain ⟨v2, S1, hc, hd⟩ := bn_some hd
    refine g_cF_v (n := 0) C (gk_J2).1 q427 q432 q430 q98 q434 (List.mem_of_getElem? (i := 1) rfl) (by decide +kernel) (by decide) (by decide) dX1_count_6 (As := []) (rest := [vI x3]) rfl rfl (Nat.le_of_ble_eq_true rfl) hg (mh_J2_size E hc) ?_
    refine g_icmp_ge (tgt := 45) C dX1_count_11 (by decide) hd (fun hd => ?_) (fun hd => ?_)
    · refine g_iload_n C dX1_count_45 rfl 2 rfl ?_
      exact g_iret C Q hd dX1_count_46
    · refine g_iload_n C dX1_count_14 rfl 2 rfl ?_
      refine g_aload_n C dX1_count_15 rfl 0 rfl ?_
      refine g_iload_n C dX1_count_16 rfl 3 rfl ?_
      obtain ⟨hg, hd⟩ := gd_some hd
      obtain ⟨v4, S3, hc, hd⟩ := bn_some hd
      refine g_cF_v (n := 1) C (gk_J2).1 q441 q446 q444 q98 q448 (List.mem_of_getElem? (i := 2) rfl) (by decide +kernel) (by decide) (by decide) dX1_count_17 (As := [vI x3]) (rest := [vI x2]) rfl rfl (Nat.le_of_ble_eq_true rfl) hg (mh_J2_get E hc) ?_
      refine g_cast C (gk_J23).1 q1919 dX1_count_22 hd (fun hd => ?_)
      obtain ⟨hg, hd⟩ := gd_some hd
      obtain ⟨v6, S5, hc, hd⟩ := bn_some hd
      refine g_cV_v (n := 0) C (gk_J23).1 q1920 q1625 q1626 q122 q1627 (by decide +kernel) (by decide) (by decide) dX1_count_25 (As := []) (rest := [vI x2]) rfl rfl (Nat.le_of_ble_eq_true rfl) hg (m_J23_intValue E.lo hc) ?_
      refine g_iload_n C dX1_count_28 rfl 1 rfl ?_
      refine g_icmp_ne (tgt := 36) C dX1_count_29 (by decide) hd (fun hd => ?_) (fun hd => ?_)
      · refine g_iconst (v := 0) C dX1_count_36 (by decide) ?_
        refine g_sub [0, 1, 3] rfl ?_
        exact w_X1_count_b37 C E Q ih _ _ _ _ _ _ hd
      · refine g_iconst (v := 1) C dX1_count_32 (by decide) ?_
        refine g_goto (tgt := 37) C dX1_count_33 (by decide) ?_
        refine g_sub [0, 1, 3] rfl ?_
        exact w_X1_count_b37 C E Q ih _ _ _ _ _ _ hd
theorem w_X1_count_b0m {K : KT} {r : Int32} {S1 : St} (C : GC K RX1 cX1_count 4 5 []) (E : EH (kΓ K) (kHI K) (kl K)) (Q : GQ K (some (Jvm.ClassFile.FieldType.int)) (.inl (some (vI r))) S1) : ∀ (S : St) (x0 : Option Nat) (x1 : Int32), n_X1_count S x0 x1 = some (r, S1) → G K 4 S 0 [(0, vR x0), (1, vI x1)] [] := by
  intro S x0 x1 hd
  unfold n_X1_count at hd
  refine g_iconst (v := 0) C dX1_count_0 (by decide) ?_
  refine g_istore_n (L' := [(2, vI (0 : Int32)), (0, vR x0), (1, vI x1)]) C dX1_count_1 rfl (by decide) rfl ?_
  refine g_iconst (v := 0) C dX1_count_2 (by decide) ?_
  refine g_istore_n (L' := [(3, vI (0 : Int32)), (2, vI (0 : Int32)), (0, vR x0), (1, vI x1)]) C dX1_count_3 rfl (by decide) rfl ?_
  refine g_sub [2, 3, 1, 0] rfl ?_
  exact w_X1_count_b4 C E Q FU _ _ _ _ _ hd
theorem m_X1_count {Γ : GG} {HI : St → Heap → Prop} {l : Launch} (E : EH Γ HI l) {S : St} {a0 : Option Nat} {a1 : Int32} {r : Int32} {S1 : St} (h : n_X1_count S a0 a1 = some (r, S1)) : MS Γ HI l yX1_count cX1_count 4 (some (Jvm.ClassFile.FieldType.int)) 5 S [vR a0, vI a1] (.inl (some (vI r))) S1 := by
  refine MS_of E.ntr E.hx (by decide +kernel) rfl (Nat.le_of_ble_eq_true rfl) fun K e1 e2 e3 e4 hnm C Q => ?_
  subst e1; subst e2; subst e3
  exact w_X1_count_b0m C E Q S a0 a1 h

def n_X1_score_b94 (k28 : St → Option Nat → Int32 → Int32 → Int32 → Int32 → Int32 → Int32 → Option (Int32 × St)) (S : St) (x0 : Option Nat) (x1 : Int32) (x2 : Int32) (x3 : Int32) (x4 : Int32) (x6 : Int32) (y0 : Int32) : Option (Int32 × St) :=
  k28 S x0 x1 x2 x3 x4 y0 (x6 + 1)
def n_X1_score_b89 (k28 : St → Option Nat → Int32 → Int32 → Int32 → Int32 → Int32 → Int32 → Option (Int32 × St)) (S : St) (x0 : Option Nat) (x1 : Int32) (x2 : Int32) (x3 : Int32) (x4 : Int32) (x6 : Int32) : Option (Int32 × St) :=
  n_X1_score_b94 k28 S x0 x1 x2 x3 x4 x6 (1 : Int32)
def n_X1_score_b93 (k28 : St → Option Nat → Int32 → Int32 → Int32 → Int32 → Int32 → Int32 → Option (Int32 × St)) (S : St) (x0 : Option Nat) (x1 : Int32) (x2 : Int32) (x3 : Int32) (x4 : Int32) (x6 : Int32) : Option (Int32 × St) :=
  n_X1_score_b94 k28 S x0 x1 x2 x3 x4 x6 (0 : Int32)
def n_X1_score_b116 (S : St) : Option (Int32 × St) :=
  rtI id (Jvm.ClassFile.FieldType.int) (0 : Int32) S
def n_X1_score_b120 (S : St) (x3 : Int32) (x4 : Int32) (x5 : Int32) : Option (Int32 × St) :=
  if x5 = 0 then
    rtI id (Jvm.ClassFile.FieldType.int) ((x3 + x4) + (0 : Int32)) S
  else
    rtI id (Jvm.ClassFile.FieldType.int) ((x3 + x4) + (10 : Int32)) S
def n_X1_score_b28 : Nat → St → Option Nat → Int32 → Int32 → Int32 → Int32 → Int32 → Int32 → Option (Int32 × St)
  | 0 => fun _ _ _ _ _ _ _ _ => none
  | n + 1 => fun S x0 x1 x2 x3 x4 x5 x6 =>
    gd (grc S x0 8) <|
    bn (h_J2_size S x0) fun v2 S1 =>
    if v2 ≤ (x6 + (1 : Int32)) then
      if x3 = 0 then
        n_X1_score_b116 S1
      else
        if x2 = (-1 : Int32) then
          n_X1_score_b120 S1 x3 x4 x5
        else
          if x4 = 0 then
            n_X1_score_b116 S1
          else
            n_X1_score_b120 S1 x3 x4 x5
    else
      if x5 = 0 then
        if x2 = (-1 : Int32) then
          n_X1_score_b93 (n_X1_score_b28 n) S1 x0 x1 x2 x3 x4 x6
        else
          gd (grc S1 x0 8) <|
          bn (h_J2_get S1 x0 x6) fun v4 S3 =>
          gd (gcst S3 v4 16) <|
          gd (grc S3 v4 16) <|
          bn (n_J23_intValue S3 v4) fun v6 S5 =>
          if v6 = x1 then
            gd (grc S5 x0 8) <|
            bn (h_J2_get S5 x0 (x6 + (1 : Int32))) fun v8 S7 =>
            gd (gcst S7 v8 16) <|
            gd (grc S7 v8 16) <|
            bn (n_J23_intValue S7 v8) fun v10 S9 =>
            if v10 = x2 then
              n_X1_score_b89 (n_X1_score_b28 n) S9 x0 x1 x2 x3 x4 x6
            else
              n_X1_score_b93 (n_X1_score_b28 n) S9 x0 x1 x2 x3 x4 x6
          else
            n_X1_score_b93 (n_X1_score_b28 n) S5 x0 x1 x2 x3 x4 x6
      else
        n_X1_score_b89 (n_X1_score_b28 n) S1 x0 x1 x2 x3 x4 x6
def n_X1_score_b20 (S : St) (x0 : Option Nat) (x1 : Int32) (x2 : Int32) (x3 : Int32) (y0 : Int32) : Option (Int32 × St) :=
  n_X1_score_b28 FU S x0 x1 x2 x3 y0 (0 : Int32) (0 : Int32)
def n_X1_score (S : St) (x0 : Option Nat) (x1 : Int32) (x2 : Int32) : Option (Int32 × St) :=
  bn (n_X1_count S x0 x1) fun v2 S1 =>
  if x2 = (-1 : Int32) then
    n_X1_score_b20 S1 x0 x1 x2 v2 (0 : Int32)
  else
    bn (n_X1_count S1 x0 x2) fun v4 S3 =>
    n_X1_score_b20 S3 x0 x1 x2 v2 v4
theorem w_X1_score_b94 {K : KT} {r : Int32} {S1 : St} (C : GC K RX1 cX1_score 7 6 []) (E : EH (kΓ K) (kHI K) (kl K)) (Q : GQ K (some (Jvm.ClassFile.FieldType.int)) (.inl (some (vI r))) S1) {k28 : St → Option Nat → Int32 → Int32 → Int32 → Int32 → Int32 → Int32 → Option (Int32 × St)} (h28 : ∀ (S : St) (x0 : Option Nat) (x1 : Int32) (x2 : Int32) (x3 : Int32) (x4 : Int32) (x5 : Int32) (x6 : Int32), k28 S x0 x1 x2 x3 x4 x5 x6 = some (r, S1) → G K 7 S 28 [(0, vR x0), (1, vI x1), (2, vI x2), (3, vI x3), (4, vI x4), (5, vI x5), (6, vI x6)] []) : ∀ (S : St) (x0 : Option Nat) (x1 : Int32) (x2 : Int32) (x3 : Int32) (x4 : Int32) (x6 : Int32) (y0 : Int32), n_X1_score_b94 k28 S x0 x1 x2 x3 x4 x6 y0 = some (r, S1) → G K 7 S 94 [(0, vR x0), (1, vI x1), (2, vI x2), (3, vI x3), (4, vI x4), (6, vI x6)] [vI y0] := by
  intro S x0 x1 x2 x3 x4 x6 y0 hd
  unfold n_X1_score_b94 at hd
  refine g_istore (L' := [(5, vI y0), (0, vR x0), (1, vI x1), (2, vI x2), (3, vI x3), (4, vI x4), (6, vI x6)]) C dX1_score_94 (by decide) rfl ?_
  refine g_iinc (v := x6 + 1) (L' := [(6, vI (x6 + 1)), (5, vI y0), (0, vR x0), (1, vI x1), (2, vI x2), (3, vI x3), (4, vI x4)]) C dX1_score_96 6 rfl rfl (by decide) rfl ?_
  refine g_goto (tgt := 28) C dX1_score_99 (by decide) ?_
  refine g_sub [2, 3, 4, 5, 6, 1, 0] rfl ?_
  exact h28 _ _ _ _ _ _ _ _ hd
theorem w_X1_score_b89 {K : KT} {r : Int32} {S1 : St} (C : GC K RX1 cX1_score 7 6 []) (E : EH (kΓ K) (kHI K) (kl K)) (Q : GQ K (some (Jvm.ClassFile.FieldType.int)) (.inl (some (vI r))) S1) {k28 : St → Option Nat → Int32 → Int32 → Int32 → Int32 → Int32 → Int32 → Option (Int32 × St)} (h28 : ∀ (S : St) (x0 : Option Nat) (x1 : Int32) (x2 : Int32) (x3 : Int32) (x4 : Int32) (x5 : Int32) (x6 : Int32), k28 S x0 x1 x2 x3 x4 x5 x6 = some (r, S1) → G K 7 S 28 [(0, vR x0), (1, vI x1), (2, vI x2), (3, vI x3), (4, vI x4), (5, vI x5), (6, vI x6)] []) : ∀ (S : St) (x0 : Option Nat) (x1 : Int32) (x2 : Int32) (x3 : Int32) (x4 : Int32) (x6 : Int32), n_X1_score_b89 k28 S x0 x1 x2 x3 x4 x6 = some (r, S1) → G K 7 S 89 [(0, vR x0), (1, vI x1), (2, vI x2), (3, vI x3), (4, vI x4), (6, vI x6)] [] := by
  intro S x0 x1 x2 x3 x4 x6 hd
  unfold n_X1_score_b89 at hd
  refine g_iconst (v := 1) C dX1_score_89 (by decide) ?_
  refine g_goto (tgt := 94) C dX1_score_90 (by decide) ?_
  refine g_sub [0, 1, 2, 3, 4, 5] rfl ?_
  exact w_X1_score_b94 C E Q h28 _ _ _ _ _ _ _ _ hd
theorem w_X1_score_b93 {K : KT} {r : Int32} {S1 : St} (C : GC K RX1 cX1_score 7 6 []) (E : EH (kΓ K) (kHI K) (kl K)) (Q : GQ K (some (Jvm.ClassFile.FieldType.int)) (.inl (some (vI r))) S1) {k28 : St → Option Nat → Int32 → Int32 → Int32 → Int32 → Int32 → Int32 → Option (Int32 × St)} (h28 : ∀ (S : St) (x0 : Option Nat) (x1 : Int32) (x2 : Int32) (x3 : Int32) (x4 : Int32) (x5 : Int32) (x6 : Int32), k28 S x0 x1 x2 x3 x4 x5 x6 = some (r, S1) → G K 7 S 28 [(0, vR x0), (1, vI x1), (2, vI x2), (3, vI x3), (4, vI x4), (5, vI x5), (6, vI x6)] []) : ∀ (S : St) (x0 : Option Nat) (x1 : Int32) (x2 : Int32) (x3 : Int32) (x4 : Int32) (x6 : Int32), n_X1_score_b93 k28 S x0 x1 x2 x3 x4 x6 = some (r, S1) → G K 7 S 93 [(0, vR x0), (1, vI x1), (2, vI x2), (3, vI x3), (4, vI x4), (6, vI x6)] [] := by
  intro S x0 x1 x2 x3 x4 x6 hd
  unfold n_X1_score_b93 at hd
  refine g_iconst (v := 0) C dX1_score_93 (by decide) ?_
  refine g_sub [0, 1, 2, 3, 4, 5] rfl ?_
  exact w_X1_score_b94 C E Q h28 _ _ _ _ _ _ _ _ hd
theorem w_X1_score_b116 {K : KT} {r : Int32} {S1 : St} (C : GC K RX1 cX1_score 7 6 []) (E : EH (kΓ K) (kHI K) (kl K)) (Q : GQ K (some (Jvm.ClassFile.FieldType.int)) (.inl (some (vI r))) S1) : ∀ (S : St), n_X1_score_b116 S = some (r, S1) → G K 7 S 116 [] [] := by
  intro S hd
  unfold n_X1_score_b116 at hd
  refine g_iconst (v := 0) C dX1_score_116 (by decide) ?_
  refine g_goto (tgt := 136) C dX1_score_117 (by decide) ?_
  exact g_iret C Q hd dX1_score_136
theorem w_X1_score_b120 {K : KT} {r : Int32} {S1 : St} (C : GC K RX1 cX1_score 7 6 []) (E : EH (kΓ K) (kHI K) (kl K)) (Q : GQ K (some (Jvm.ClassFile.FieldType.int)) (.inl (some (vI r))) S1) : ∀ (S : St) (x3 : Int32) (x4 : Int32) (x5 : Int32), n_X1_score_b120 S x3 x4 x5 = some (r, S1) → G K 7 S 120 [(3, vI x3), (4, vI x4), (5, vI x5)] [] := by
  intro S x3 x4 x5 hd
  unfold n_X1_score_b120 at hd
  refine g_iload_n C dX1_score_120 rfl 0 rfl ?_
  refine g_iload C dX1_score_121 1 rfl ?_
  refine g_iadd C dX1_score_123 ?_
  refine g_iload C dX1_score_124 2 rfl ?_
  refine g_if_eq (tgt := 134) C dX1_score_126 (by decide) hd (fun hd => ?_) (fun hd => ?_)
  · refine g_iconst (v := 0) C dX1_score_134 (by decide) ?_
    refine g_iadd C dX1_score_135 ?_
    exact g_iret C Q hd dX1_score_136
  · refine g_bipush (v := 10) C dX1_score_129 (by decide) ?_
    refine g_goto (tgt := 135) C dX1_score_131 (by decide) ?_
    refine g_iadd C dX1_score_135 ?_
    exact g_iret C Q hd dX1_score_136
theorem w_X1_score_b28 {K : KT} {r : Int32} {S1 : St} (C : GC K RX1 cX1_score 7 6 []) (E : EH (kΓ K) (kHI K) (kl K)) (Q : GQ K (some (Jvm.ClassFile.FieldType.int)) (.inl (some (vI r))) S1) : ∀ (n : Nat) (S : St) (x0 : Option Nat) (x1 : Int32) (x2 : Int32) (x3 : Int32) (x4 : Int32) (x5 : Int32) (x6 : Int32), n_X1_score_b28 n S x0 x1 x2 x3 x4 x5 x6 = some (r, S1) → G K 7 S 28 [(0, vR x0), (1, vI x1), (2, vI x2), (3, vI x3), (4, vI x4), (5, vI x5), (6, vI x6)] [] := by
  intro n
  induction n with
  | zero => intro S x0 x1 x2 x3 x4 x5 x6 hd; cases hd
  | succ n ih =>
    intro S x0 x1 x2 x3 x4 x5 x6 hd
    unfold n_X1_score_b28 at hd
    refine g_iload C dX1_score_28 6 rfl ?_
    refine g_iconst (v := 1) C dX1_score_30 (by decide) ?_
    refine g_iadd C dX1_score_31 ?_
    refine g_aload_n C dX1_score_32 rfl 0 rfl ?_
    obtain ⟨hg, hd⟩ := gd_some hd
    obtain ⟨v2, S1, hc, hd⟩ := bn_some hd
    refine g_cF_v (n := 0) C (gk_J2).1 q427 q432 q430 q98 q434 (List.mem_of_getElem? (i := 1) rfl) (by decide +kernel) (by decide) (by decide) dX1_score_33 (As := []) (rest := [vI (x6 + (1 : Int32))]) rfl rfl (Nat.le_of_ble_eq_true rfl) hg (mh_J2_size E hc) ?_
    refine g_icmp_ge (tgt := 102) C dX1_score_38 (by decide) hd (fun hd => ?_) (fun hd => ?_)
    · refine g_iload_n C dX1_score_102 rfl 3 rfl ?_
      refine g_if_eq (tgt := 116) C dX1_score_103 (by decide) hd (fun hd => ?_) (fun hd => ?_)
      · refine g_sub [] rfl ?_
        exact w_X1_score_b116 C E Q _ hd
      · refine g_iload_n C dX1_score_106 rfl 2 rfl ?_
        refine g_iconst (v := (-1)) C dX1_score_107 (by decide) ?_
        refine g_icmp_eq (tgt := 120) C dX1_score_108 (by decide) hd (fun hd => ?_) (fun hd => ?_)
        · refine g_sub [3, 4, 5] rfl ?_
          exact w_X1_score_b120 C E Q _ _ _ _ hd
        · refine g_iload C dX1_score_111 4 rfl ?_
          refine g_if_ne (tgt := 120) C dX1_score_113 (by decide) hd (fun hd => ?_) (fun hd => ?_)
          · refine g_sub [3, 4, 5] rfl ?_
            exact w_X1_score_b120 C E Q _ _ _ _ hd
          · refine g_sub [] rfl ?_
            exact w_X1_score_b116 C E Q _ hd
    · refine g_iload C dX1_score_41 5 rfl ?_
      refine g_if_ne (tgt := 89) C dX1_score_43 (by decide) hd (fun hd => ?_) (fun hd => ?_)
      · refine g_sub [0, 1, 2, 3, 4, 6] rfl ?_
        exact w_X1_score_b89 C E Q ih _ _ _ _ _ _ _ hd
      · refine g_iload_n C dX1_score_46 rfl 2 rfl ?_
        refine g_iconst (v := (-1)) C dX1_score_47 (by decide) ?_
        refine g_icmp_eq (tgt := 93) C dX1_score_48 (by decide) hd (fun hd => ?_) (fun hd => ?_)
        · refine g_sub [0, 1, 2, 3, 4, 6] rfl ?_
          exact w_X1_score_b93 C E Q ih _ _ _ _ _ _ _ hd
        · refine g_aload_n C dX1_score_51 rfl 0 rfl ?_
          refine g_iload C dX1_score_52 6 rfl ?_
          obtain ⟨hg, hd⟩ := gd_some hd
          obtain ⟨v4, S3, hc, hd⟩ := bn_some hd
          refine g_cF_v (n := 1) C (gk_J2).1 q441 q446 q444 q98 q448 (List.mem_of_getElem? (i := 2) rfl) (by decide +kernel) (by decide) (by decide) dX1_score_54 (As := [vI x6]) (rest := []) rfl rfl (Nat.le_of_ble_eq_true rfl) hg (mh_J2_get E hc) ?_
          refine g_cast C (gk_J23).1 q1919 dX1_score_59 hd (fun hd => ?_)
          obtain ⟨hg, hd⟩ := gd_some hd
          obtain ⟨v6, S5, hc, hd⟩ := bn_some hd
          refine g_cV_v (n := 0) C (gk_J23).1 q1920 q1625 q1626 q122 q1627 (by decide +kernel) (by decide) (by decide) dX1_score_62 (As := []) (rest := []) rfl rfl (Nat.le_of_ble_eq_true rfl) hg (m_J23_intValue E.lo hc) ?_
          refine g_iload_n C dX1_score_65 rfl 1 rfl ?_
          refine g_icmp_ne (tgt := 93) C dX1_score_66 (by decide) hd (fun hd => ?_) (fun hd => ?_)
          · refine g_sub [0, 1, 2, 3, 4, 6] rfl ?_
            exact w_X1_score_b93 C E Q ih _ _ _ _ _ _ _ hd
          · refine g_aload_n C dX1_score_69 rfl 0 rfl ?_
            refine g_iload C dX1_score_70 6 rfl ?_
            refine g_iconst (v := 1) C dX1_score_72 (by decide) ?_
            refine g_iadd C dX1_score_73 ?_
            obtain ⟨hg, hd⟩ := gd_some hd
            obtain ⟨v8, S7, hc, hd⟩ := bn_some hd
            refine g_cF_v (n := 1) C (gk_J2).1 q441 q446 q444 q98 q448 (List.mem_of_getElem? (i := 2) rfl) (by decide +kernel) (by decide) (by decide) dX1_score_74 (As := [vI (x6 + (1 : Int32))]) (rest := []) rfl rfl (Nat.le_of_ble_eq_true rfl) hg (mh_J2_get E hc) ?_
            refine g_cast C (gk_J23).1 q1919 dX1_score_79 hd (fun hd => ?_)
            obtain ⟨hg, hd⟩ := gd_some hd
            obtain ⟨v10, S9, hc, hd⟩ := bn_some hd
            refine g_cV_v (n := 0) C (gk_J23).1 q1920 q1625 q1626 q122 q1627 (by decide +kernel) (by decide) (by decide) dX1_score_82 (As := []) (rest := []) rfl rfl (Nat.le_of_ble_eq_true rfl) hg (m_J23_intValue E.lo hc) ?_
            refine g_iload_n C dX1_score_85 rfl 2 rfl ?_
            refine g_icmp_ne (tgt := 93) C dX1_score_86 (by decide) hd (fun hd => ?_) (fun hd => ?_)
            · refine g_sub [0, 1, 2, 3, 4, 6] rfl ?_
              exact w_X1_score_b93 C E Q ih _ _ _ _ _ _ _ hd
            · refine g_sub [0, 1, 2, 3, 4, 6] rfl ?_
              exact w_X1_score_b89 C E Q ih _ _ _ _ _ _ _ hd
theorem w_X1_score_b20 {K : KT} {r : Int32} {S1 : St} (C : GC K RX1 cX1_score 7 6 []) (E : EH (kΓ K) (kHI K) (kl K)) (Q : GQ K (some (Jvm.ClassFile.FieldType.int)) (.inl (some (vI r))) S1) : ∀ (S : St) (x0 : Option Nat) (x1 : Int32) (x2 : Int32) (x3 : Int32) (y0 : Int32), n_X1_score_b20 S x0 x1 x2 x3 y0 = some (r, S1) → G K 7 S 20 [(0, vR x0), (1, vI x1), (2, vI x2), (3, vI x3)] [vI y0] := by
  intro S x0 x1 x2 x3 y0 hd
  unfold n_X1_score_b20 at hd
  refine g_istore (L' := [(4, vI y0), (0, vR x0), (1, vI x1), (2, vI x2), (3, vI x3)]) C dX1_score_20 (by decide) rfl ?_
  refine g_iconst (v := 0) C dX1_score_22 (by decide) ?_
  refine g_istore (L' := [(5, vI (0 : Int32)), (4, vI y0), (0, vR x0), (1, vI x1), (2, vI x2), (3, vI x3)]) C dX1_score_23 (by decide) rfl ?_
  refine g_iconst (v := 0) C dX1_score_25 (by decide) ?_
  refine g_istore (L' := [(6, vI (0 : Int32)), (5, vI (0 : Int32)), (4, vI y0), (0, vR x0), (1, vI x1), (2, vI x2), (3, vI x3)]) C dX1_score_26 (by decide) rfl ?_
  refine g_sub [3, 4, 5, 6, 2, 1, 0] rfl ?_
  exact w_X1_score_b28 C E Q FU _ _ _ _ _ _ _ _ hd
theorem w_X1_score_b0m {K : KT} {r : Int32} {S1 : St} (C : GC K RX1 cX1_score 7 6 []) (E : EH (kΓ K) (kHI K) (kl K)) (Q : GQ K (some (Jvm.ClassFile.FieldType.int)) (.inl (some (vI r))) S1) : ∀ (S : St) (x0 : Option Nat) (x1 : Int32) (x2 : Int32), n_X1_score S x0 x1 x2 = some (r, S1) → G K 7 S 0 [(0, vR x0), (1, vI x1), (2, vI x2)] [] := by
  intro S x0 x1 x2 hd
  unfold n_X1_score at hd
  refine g_aload_n C dX1_score_0 rfl 0 rfl ?_
  refine g_iload_n C dX1_score_1 rfl 1 rfl ?_
  obtain ⟨v2, S1, hc, hd⟩ := bn_some hd
  refine g_cS_v (n := 2) C q1916 q1917 q95 q1918 (by decide +kernel) (by decide) (by decide) dX1_score_2 (As := [vR x0, vI x1]) (rest := []) rfl rfl (Nat.le_of_ble_eq_true rfl) (m_X1_count E hc) ?_
  refine g_istore_n (L' := [(3, vI v2), (0, vR x0), (1, vI x1), (2, vI x2)]) C dX1_score_5 rfl (by decide) rfl ?_
  refine g_iload_n C dX1_score_6 rfl 3 rfl ?_
  refine g_iconst (v := (-1)) C dX1_score_7 (by decide) ?_
  refine g_icmp_ne (tgt := 15) C dX1_score_8 (by decide) hd (fun hd => ?_) (fun hd => ?_)
  · refine g_aload_n C dX1_score_15 rfl 1 rfl ?_
    refine g_iload_n C dX1_score_16 rfl 3 rfl ?_
    obtain ⟨v4, S3, hc, hd⟩ := bn_some hd
    refine g_cS_v (n := 2) C q1916 q1917 q95 q1918 (by decide +kernel) (by decide) (by decide) dX1_score_17 (As := [vR x0, vI x2]) (rest := []) rfl rfl (Nat.le_of_ble_eq_true rfl) (m_X1_count E hc) ?_
    refine g_sub [1, 2, 3, 0] rfl ?_
    exact w_X1_score_b20 C E Q _ _ _ _ _ _ hd
  · refine g_iconst (v := 0) C dX1_score_11 (by decide) ?_
    refine g_goto (tgt := 20) C dX1_score_12 (by decide) ?_
    refine g_sub [1, 2, 3, 0] rfl ?_
    exact w_X1_score_b20 C E Q _ _ _ _ _ _ hd
theorem m_X1_score {Γ : GG} {HI : St → Heap → Prop} {l : Launch} (E : EH Γ HI l) {S : St} {a0 : Option Nat} {a1 : Int32} {a2 : Int32} {r : Int32} {S1 : St} (h : n_X1_score S a0 a1 a2 = some (r, S1)) : MS Γ HI l yX1_score cX1_score 7 (some (Jvm.ClassFile.FieldType.int)) 6 S [vR a0, vI a1, vI a2] (.inl (some (vI r))) S1 := by
  refine MS_of E.ntr E.hx (by decide +kernel) rfl (Nat.le_of_ble_eq_true rfl) fun K e1 e2 e3 e4 hnm C Q => ?_
  subst e1; subst e2; subst e3
  exact w_X1_score_b0m C E Q S a0 a1 a2 h

def n_X1_answer_b194 (k12 : St → Option Nat → Int32 → Int32 → Int32 → Option Nat → Option Nat → Int32 → Option (Option Nat × St)) (S : St) (x0 : Option Nat) (x1 : Int32) (x2 : Int32) (x3 : Int32) (x4 : Option Nat) (x5 : Option Nat) (x6 : Int32) : Option (Option Nat × St) :=
  k12 S x0 x1 x2 x3 x4 x5 (x6 + 1)
def n_X1_answer_b169 (k12 : St → Option Nat → Int32 → Int32 → Int32 → Option Nat → Option Nat → Int32 → Option (Option Nat × St)) (S : St) (x0 : Option Nat) (x1 : Int32) (x2 : Int32) (x3 : Int32) (x4 : Option Nat) (x5 : Option Nat) (x6 : Int32) (x10 : Int32) (x11 : Int32) : Option (Option Nat × St) :=
  if x10 ≤ 0 then
    n_X1_answer_b194 k12 S x0 x1 x2 x3 x4 x5 x6
  else
    bn (n_J23_valueOf S (((100 : Int32) * x10) + x6)) fun v2 S1 =>
    gd (grc S1 x5 8) <|
    bn (h_J2_add_3 S1 x5 x11 v2) fun _ S3 =>
    n_X1_answer_b194 k12 S3 x0 x1 x2 x3 x4 x5 x6
def n_X1_answer_b128 (k12 : St → Option Nat → Int32 → Int32 → Int32 → Option Nat → Option Nat → Int32 → Option (Option Nat × St)) : Nat → St → Option Nat → Int32 → Int32 → Int32 → Option Nat → Option Nat → Int32 → Int32 → Int32 → Option (Option Nat × St)
  | 0 => fun _ _ _ _ _ _ _ _ _ _ => none
  | n + 1 => fun S x0 x1 x2 x3 x4 x5 x6 x10 x11 =>
    gd (grc S x5 8) <|
    bn (h_J2_size S x5) fun v2 S1 =>
    if v2 ≤ x11 then
      n_X1_answer_b169 k12 S1 x0 x1 x2 x3 x4 x5 x6 x10 x11
    else
      gd (grc S1 x5 8) <|
      bn (h_J2_get S1 x5 x11) fun v4 S3 =>
      gd (gcst S3 v4 16) <|
      gd (grc S3 v4 16) <|
      bn (n_J23_intValue S3 v4) fun v6 S5 =>
      if (100 : Int32) = 0 then none else
      if (v6 / (100 : Int32)) < x10 then
        n_X1_answer_b169 k12 S5 x0 x1 x2 x3 x4 x5 x6 x10 x11
      else
        (n_X1_answer_b128 k12 n) S5 x0 x1 x2 x3 x4 x5 x6 x10 (x11 + 1)
def n_X1_answer_b123 (k12 : St → Option Nat → Int32 → Int32 → Int32 → Option Nat → Option Nat → Int32 → Option (Option Nat × St)) (S : St) (x0 : Option Nat) (x1 : Int32) (x2 : Int32) (x3 : Int32) (x4 : Option Nat) (x5 : Option Nat) (x6 : Int32) (y0 : Int32) : Option (Option Nat × St) :=
  n_X1_answer_b128 k12 FU S x0 x1 x2 x3 x4 x5 x6 y0 (0 : Int32)
def n_X1_answer_b102 (k12 : St → Option Nat → Int32 → Int32 → Int32 → Option Nat → Option Nat → Int32 → Option (Option Nat × St)) (S : St) (x0 : Option Nat) (x1 : Int32) (x2 : Int32) (x3 : Int32) (x4 : Option Nat) (x5 : Option Nat) (x6 : Int32) (x7 : Option Nat) (y0 : Int32) : Option (Option Nat × St) :=
  if y0 = 0 then
    n_X1_answer_b123 k12 S x0 x1 x2 x3 x4 x5 x6 (0 : Int32)
  else
    (gR S x7 5 4).bind fun v1 =>
    bn (n_X1_score S v1 x2 x3) fun v3 S2 =>
    n_X1_answer_b123 k12 S2 x0 x1 x2 x3 x4 x5 x6 v3
def n_X1_answer_b97 (k12 : St → Option Nat → Int32 → Int32 → Int32 → Option Nat → Option Nat → Int32 → Option (Option Nat × St)) (S : St) (x0 : Option Nat) (x1 : Int32) (x2 : Int32) (x3 : Int32) (x4 : Option Nat) (x5 : Option Nat) (x6 : Int32) (x7 : Option Nat) : Option (Option Nat × St) :=
  n_X1_answer_b102 k12 S x0 x1 x2 x3 x4 x5 x6 x7 (1 : Int32)
def n_X1_answer_b101 (k12 : St → Option Nat → Int32 → Int32 → Int32 → Option Nat → Option Nat → Int32 → Option (Option Nat × St)) (S : St) (x0 : Option Nat) (x1 : Int32) (x2 : Int32) (x3 : Int32) (x4 : Option Nat) (x5 : Option Nat) (x6 : Int32) (x7 : Option Nat) : Option (Option Nat × St) :=
  n_X1_answer_b102 k12 S x0 x1 x2 x3 x4 x5 x6 x7 (0 : Int32)
def n_X1_answer_b12 : Nat → St → Option Nat → Int32 → Int32 → Int32 → Option Nat → Option Nat → Int32 → Option (Option Nat × St)
  | 0 => fun _ _ _ _ _ _ _ _ => none
  | n + 1 => fun S x0 x1 x2 x3 x4 x5 x6 =>
    (gR S x0 0 0).bind fun v1 =>
    gd (grc S v1 8) <|
    bn (h_J2_size S v1) fun v3 S2 =>
    if v3 ≤ x6 then
      some (x5, S2)
    else
      (gR S2 x0 0 2).bind fun v4 =>
      (aR S2 v4 5 x6).bind fun v5 =>
      (gR S2 x0 0 0).bind fun v6 =>
      gd (grc S2 v6 8) <|
      bn (h_J2_get S2 v6 x6) fun v8 S7 =>
      gd (gcst S7 v8 1) <|
      if v5 = none then
        n_X1_answer_b101 (n_X1_answer_b12 n) S7 x0 x1 x2 x3 x4 x5 x6 v5
      else
        (gI S7 v8 1 1).bind fun v9 =>
        if v9 = 0 then
          (gI S7 v8 1 8).bind fun v10 =>
          if v10 = 0 then
            gd (grc S7 v8 1) <|
            bn (n_X2_mayBeRead S7 v8 x1) fun v12 S11 =>
            if v12 = 0 then
              n_X1_answer_b101 (n_X1_answer_b12 n) S11 x0 x1 x2 x3 x4 x5 x6 v5
            else
              if x4 = none then
                n_X1_answer_b97 (n_X1_answer_b12 n) S11 x0 x1 x2 x3 x4 x5 x6 v5
              else
                gd (grc S11 x0 0) <|
                bn (n_X1_isKnownBelow S11 x0 v8 x4) fun v14 S13 =>
                if v14 = 0 then
                  n_X1_answer_b101 (n_X1_answer_b12 n) S13 x0 x1 x2 x3 x4 x5 x6 v5
                else
                  n_X1_answer_b97 (n_X1_answer_b12 n) S13 x0 x1 x2 x3 x4 x5 x6 v5
          else
            n_X1_answer_b101 (n_X1_answer_b12 n) S7 x0 x1 x2 x3 x4 x5 x6 v5
        else
          n_X1_answer_b101 (n_X1_answer_b12 n) S7 x0 x1 x2 x3 x4 x5 x6 v5
def n_X1_answer (S : St) (x0 : Option Nat) (x1 : Int32) (x2 : Int32) (x3 : Int32) (x4 : Option Nat) : Option (Option Nat × St) :=
  nwB S (cO 8 [vI 0, vR none, vI 0]) 3 fun q1 S2 =>
  gd (q1).isSome <|
  bn (h_J2_init S2 q1) fun _ S3 =>
  n_X1_answer_b12 FU S3 x0 x1 x2 x3 x4 q1 (0 : Int32)
theorem w_X1_answer_b194 {K : KT} {r : Option Nat} {S1 : St} (C : GC K RX1 cX1_answer 12 9 []) (E : EH (kΓ K) (kHI K) (kl K)) (Q : GQ K (some (Jvm.ClassFile.FieldType.object "java/util/List")) (.inl (some (vR r))) S1) {k12 : St → Option Nat → Int32 → Int32 → Int32 → Option Nat → Option Nat → Int32 → Option (Option Nat × St)} (h12 : ∀ (S : St) (x0 : Option Nat) (x1 : Int32) (x2 : Int32) (x3 : Int32) (x4 : Option Nat) (x5 : Option Nat) (x6 : Int32), k12 S x0 x1 x2 x3 x4 x5 x6 = some (r, S1) → G K 12 S 12 [(0, vR x0), (1, vI x1), (2, vI x2), (3, vI x3), (4, vR x4), (5, vR x5), (6, vI x6)] []) : ∀ (S : St) (x0 : Option Nat) (x1 : Int32) (x2 : Int32) (x3 : Int32) (x4 : Option Nat) (x5 : Option Nat) (x6 : Int32), n_X1_answer_b194 k12 S x0 x1 x2 x3 x4 x5 x6 = some (r, S1) → G K 12 S 194 [(0, vR x0), (1, vI x1), (2, vI x2), (3, vI x3), (4, vR x4), (5, vR x5), (6, vI x6)] [] := by
  intro S x0 x1 x2 x3 x4 x5 x6 hd
  unfold n_X1_answer_b194 at hd
  refine g_iinc (v := x6 + 1) (L' := [(6, vI (x6 + 1)), (0, vR x0), (1, vI x1), (2, vI x2), (3, vI x3), (4, vR x4), (5, vR x5)]) C dX1_answer_194 6 rfl rfl (by decide) rfl ?_
  refine g_goto (tgt := 12) C dX1_answer_197 (by decide) ?_
  refine g_sub [1, 2, 3, 4, 5, 6, 0] rfl ?_
  exact h12 _ _ _ _ _ _ _ _ hd
theorem w_X1_answer_b169 {K : KT} {r : Option Nat} {S1 : St} (C : GC K RX1 cX1_answer 12 9 []) (E : EH (kΓ K) (kHI K) (kl K)) (Q : GQ K (some (Jvm.ClassFile.FieldType.object "java/util/List")) (.inl (some (vR r))) S1) {k12 : St → Option Nat → Int32 → Int32 → Int32 → Option Nat → Option Nat → Int32 → Option (Option Nat × St)} (h12 : ∀ (S : St) (x0 : Option Nat) (x1 : Int32) (x2 : Int32) (x3 : Int32) (x4 : Option Nat) (x5 : Option Nat) (x6 : Int32), k12 S x0 x1 x2 x3 x4 x5 x6 = some (r, S1) → G K 12 S 12 [(0, vR x0), (1, vI x1), (2, vI x2), (3, vI x3), (4, vR x4), (5, vR x5), (6, vI x6)] []) : ∀ (S : St) (x0 : Option Nat) (x1 : Int32) (x2 : Int32) (x3 : Int32) (x4 : Option Nat) (x5 : Option Nat) (x6 : Int32) (x10 : Int32) (x11 : Int32), n_X1_answer_b169 k12 S x0 x1 x2 x3 x4 x5 x6 x10 x11 = some (r, S1) → G K 12 S 169 [(0, vR x0), (1, vI x1), (2, vI x2), (3, vI x3), (4, vR x4), (5, vR x5), (6, vI x6), (10, vI x10), (11, vI x11)] [] := by
  intro S x0 x1 x2 x3 x4 x5 x6 x10 x11 hd
  unfold n_X1_answer_b169 at hd
  refine g_iload C dX1_answer_169 7 rfl ?_
  refine g_if_le (tgt := 194) C dX1_answer_171 (by decide) hd (fun hd => ?_) (fun hd => ?_)
  · refine g_sub [0, 1, 2, 3, 4, 5, 6] rfl ?_
    exact w_X1_answer_b194 C E Q h12 _ _ _ _ _ _ _ _ hd
  · refine g_aload C dX1_answer_174 5 rfl ?_
    refine g_iload C dX1_answer_176 8 rfl ?_
    refine g_bipush (v := 100) C dX1_answer_178 (by decide) ?_
    refine g_iload C dX1_answer_180 7 rfl ?_
    refine g_imul C dX1_answer_182 ?_
    refine g_iload C dX1_answer_183 6 rfl ?_
    refine g_iadd C dX1_answer_185 ?_
    obtain ⟨v2, S1, hc, hd⟩ := bn_some hd
    refine g_cS_v (n := 1) C q1228 q1229 q122 q1230 (by decide +kernel) (by decide) (by decide) dX1_answer_186 (As := [vI (((100 : Int32) * x10) + x6)]) (rest := [vI x11, vR x5]) rfl rfl (Nat.le_of_ble_eq_true rfl) (m_J23_valueOf E.lo hc) ?_
    obtain ⟨hg, hd⟩ := gd_some hd
    obtain ⟨_, S3, hc, hd⟩ := bn_some hd
    refine g_cF_n (n := 2) C (gk_J2).1 q1922 q1927 q1925 q98 q1929 (List.mem_of_getElem? (i := 8) rfl) (by decide +kernel) (by decide) (by decide) dX1_answer_189 (As := [vI x11, vR v2]) (rest := []) rfl rfl (Nat.le_of_ble_eq_true rfl) hg (mh_J2_add_3 E hc) ?_
    refine g_sub [0, 1, 2, 3, 4, 5, 6] rfl ?_
    exact w_X1_answer_b194 C E Q h12 _ _ _ _ _ _ _ _ hd
theorem w_X1_answer_b128 {K : KT} {r : Option Nat} {S1 : St} (C : GC K RX1 cX1_answer 12 9 []) (E : EH (kΓ K) (kHI K) (kl K)) (Q : GQ K (some (Jvm.ClassFile.FieldType.object "java/util/List")) (.inl (some (vR r))) S1) {k12 : St → Option Nat → Int32 → Int32 → Int32 → Option Nat → Option Nat → Int32 → Option (Option Nat × St)} (h12 : ∀ (S : St) (x0 : Option Nat) (x1 : Int32) (x2 : Int32) (x3 : Int32) (x4 : Option Nat) (x5 : Option Nat) (x6 : Int32), k12 S x0 x1 x2 x3 x4 x5 x6 = some (r, S1) → G K 12 S 12 [(0, vR x0), (1, vI x1), (2, vI x2), (3, vI x3), (4, vR x4), (5, vR x5), (6, vI x6)] []) : ∀ (n : Nat) (S : St) (x0 : Option Nat) (x1 : Int32) (x2 : Int32) (x3 : Int32) (x4 : Option Nat) (x5 : Option Nat) (x6 : Int32) (x10 : Int32) (x11 : Int32), n_X1_answer_b128 k12 n S x0 x1 x2 x3 x4 x5 x6 x10 x11 = some (r, S1) → G K 12 S 128 [(0, vR x0), (1, vI x1), (2, vI x2), (3, vI x3), (4, vR x4), (5, vR x5), (6, vI x6), (10, vI x10), (11, vI x11)] [] := by
  intro n
  induction n with
  | zero => intro S x0 x1 x2 x3 x4 x5 x6 x10 x11 hd; cases hd
  | succ n ih =>
    intro S x0 x1 x2 x3 x4 x5 x6 x10 x11 hd
    unfold n_X1_answer_b128 at hd
    refine g_iload C dX1_answer_128 8 rfl ?_
    refine g_aload C dX1_answer_130 5 rfl ?_
    obtain ⟨hg, hd⟩ := gd_some hd
    obtain ⟨v2, S1, hc, hd⟩ := bn_some hd
    refine g_cF_v (n := 0) C (gk_J2).1 q427 q432 q430 q98 q434 (List.mem_of_getElem? (i := 1) rfl) (by decide +kernel) (by decide) (by decide) dX1_answer_132 (As := []) (rest := [vI x11]) rfl rfl (Nat.le_of_ble_eq_true rfl) hg (mh_J2_size E hc) ?_
    refine g_icmp_ge (tgt := 169) C dX1_answer_137 (by decide) hd (fun hd => ?_) (fun hd => ?_)
    · refine g_sub [0, 1, 2, 3, 4, 5, 6, 7, 8] rfl ?_
      exact w_X1_answer_b169 C E Q h12 _ _ _ _ _ _ _ _ _ _ hd
    · refine g_aload C dX1_answer_140 5 rfl ?_
      refine g_iload C dX1_answer_142 8 rfl ?_
      obtain ⟨hg, hd⟩ := gd_some hd
      obtain ⟨v4, S3, hc, hd⟩ := bn_some hd
      refine g_cF_v (n := 1) C (gk_J2).1 q441 q446 q444 q98 q448 (List.mem_of_getElem? (i := 2) rfl) (by decide +kernel) (by decide) (by decide) dX1_answer_144 (As := [vI x11]) (rest := []) rfl rfl (Nat.le_of_ble_eq_true rfl) hg (mh_J2_get E hc) ?_
      refine g_cast C (gk_J23).1 q1919 dX1_answer_149 hd (fun hd => ?_)
      obtain ⟨hg, hd⟩ := gd_some hd
      obtain ⟨v6, S5, hc, hd⟩ := bn_some hd
      refine g_cV_v (n := 0) C (gk_J23).1 q1920 q1625 q1626 q122 q1627 (by decide +kernel) (by decide) (by decide) dX1_answer_152 (As := []) (rest := []) rfl rfl (Nat.le_of_ble_eq_true rfl) hg (m_J23_intValue E.lo hc) ?_
      refine g_bipush (v := 100) C dX1_answer_155 (by decide) ?_
      refine g_idiv C dX1_answer_157 hd (fun hd => ?_)
      refine g_iload C dX1_answer_158 7 rfl ?_
      refine g_icmp_lt (tgt := 169) C dX1_answer_160 (by decide) hd (fun hd => ?_) (fun hd => ?_)
      · refine g_sub [0, 1, 2, 3, 4, 5, 6, 7, 8] rfl ?_
        exact w_X1_answer_b169 C E Q h12 _ _ _ _ _ _ _ _ _ _ hd
      · refine g_iinc (v := x11 + 1) (L' := [(11, vI (x11 + 1)), (0, vR x0), (1, vI x1), (2, vI x2), (3, vI x3), (4, vR x4), (5, vR x5), (6, vI x6), (10, vI x10)]) C dX1_answer_163 8 rfl rfl (by decide) rfl ?_
        refine g_goto (tgt := 128) C dX1_answer_166 (by decide) ?_
        refine g_sub [1, 2, 3, 4, 5, 6, 7, 8, 0] rfl ?_
        exact ih _ _ _ _ _ _ _ _ _ _ hd
theorem w_X1_answer_b123 {K : KT} {r : Option Nat} {S1 : St} (C : GC K RX1 cX1_answer 12 9 []) (E : EH (kΓ K) (kHI K) (kl K)) (Q : GQ K (some (Jvm.ClassFile.FieldType.object "java/util/List")) (.inl (some (vR r))) S1) {k12 : St → Option Nat → Int32 → Int32 → Int32 → Option Nat → Option Nat → Int32 → Option (Option Nat × St)} (h12 : ∀ (S : St) (x0 : Option Nat) (x1 : Int32) (x2 : Int32) (x3 : Int32) (x4 : Option Nat) (x5 : Option Nat) (x6 : Int32), k12 S x0 x1 x2 x3 x4 x5 x6 = some (r, S1) → G K 12 S 12 [(0, vR x0), (1, vI x1), (2, vI x2), (3, vI x3), (4, vR x4), (5, vR x5), (6, vI x6)] []) : ∀ (S : St) (x0 : Option Nat) (x1 : Int32) (x2 : Int32) (x3 : Int32) (x4 : Option Nat) (x5 : Option Nat) (x6 : Int32) (y0 : Int32), n_X1_answer_b123 k12 S x0 x1 x2 x3 x4 x5 x6 y0 = some (r, S1) → G K 12 S 123 [(0, vR x0), (1, vI x1), (2, vI x2), (3, vI x3), (4, vR x4), (5, vR x5), (6, vI x6)] [vI y0] := by
  intro S x0 x1 x2 x3 x4 x5 x6 y0 hd
  unfold n_X1_answer_b123 at hd
  refine g_istore (L' := [(10, vI y0), (0, vR x0), (1, vI x1), (2, vI x2), (3, vI x3), (4, vR x4), (5, vR x5), (6, vI x6)]) C dX1_answer_123 (by decide) rfl ?_
  refine g_iconst (v := 0) C dX1_answer_125 (by decide) ?_
  refine g_istore (L' := [(11, vI (0 : Int32)), (10, vI y0), (0, vR x0), (1, vI x1), (2, vI x2), (3, vI x3), (4, vR x4), (5, vR x5), (6, vI x6)]) C dX1_answer_126 (by decide) rfl ?_
  refine g_sub [2, 3, 4, 5, 6, 7, 8, 1, 0] rfl ?_
  exact w_X1_answer_b128 C E Q h12 FU _ _ _ _ _ _ _ _ _ _ hd
theorem w_X1_answer_b102 {K : KT} {r : Option Nat} {S1 : St} (C : GC K RX1 cX1_answer 12 9 []) (E : EH (kΓ K) (kHI K) (kl K)) (Q : GQ K (some (Jvm.ClassFile.FieldType.object "java/util/List")) (.inl (some (vR r))) S1) {k12 : St → Option Nat → Int32 → Int32 → Int32 → Option Nat → Option Nat → Int32 → Option (Option Nat × St)} (h12 : ∀ (S : St) (x0 : Option Nat) (x1 : Int32) (x2 : Int32) (x3 : Int32) (x4 : Option Nat) (x5 : Option Nat) (x6 : Int32), k12 S x0 x1 x2 x3 x4 x5 x6 = some (r, S1) → G K 12 S 12 [(0, vR x0), (1, vI x1), (2, vI x2), (3, vI x3), (4, vR x4), (5, vR x5), (6, vI x6)] []) : ∀ (S : St) (x0 : Option Nat) (x1 : Int32) (x2 : Int32) (x3 : Int32) (x4 : Option Nat) (x5 : Option Nat) (x6 : Int32) (x7 : Option Nat) (y0 : Int32), n_X1_answer_b102 k12 S x0 x1 x2 x3 x4 x5 x6 x7 y0 = some (r, S1) → G K 12 S 102 [(0, vR x0), (1, vI x1), (2, vI x2), (3, vI x3), (4, vR x4), (5, vR x5), (6, vI x6), (7, vR x7)] [vI y0] := by
  intro S x0 x1 x2 x3 x4 x5 x6 x7 y0 hd
  unfold n_X1_answer_b102 at hd
  refine g_istore (L' := [(9, vI y0), (0, vR x0), (1, vI x1), (2, vI x2), (3, vI x3), (4, vR x4), (5, vR x5), (6, vI x6), (7, vR x7)]) C dX1_answer_102 (by decide) rfl ?_
  refine g_iload C dX1_answer_104 0 rfl ?_
  refine g_if_eq (tgt := 122) C dX1_answer_106 (by decide) hd (fun hd => ?_) (fun hd => ?_)
  · refine g_iconst (v := 0) C dX1_answer_122 (by decide) ?_
    refine g_sub [1, 2, 3, 4, 5, 6, 7] rfl ?_
    exact w_X1_answer_b123 C E Q h12 _ _ _ _ _ _ _ _ _ hd
  · refine g_aload C dX1_answer_109 8 rfl ?_
    obtain ⟨v1, hv1, hd⟩ := Option.bind_eq_some_iff.mp hd
    refine g_fldN C gk_X7 (k := 4) (by decide) q1690 rfl dX1_answer_111 (gR_v hv1) ?_
    refine g_iload_n C dX1_answer_114 rfl 3 rfl ?_
    refine g_iload_n C dX1_answer_115 rfl 4 rfl ?_
    obtain ⟨v3, S2, hc, hd⟩ := bn_some hd
    refine g_cS_v (n := 3) C q1913 q1914 q95 q1915 (by decide +kernel) (by decide) (by decide) dX1_answer_116 (As := [vR v1, vI x2, vI x3]) (rest := []) rfl rfl (Nat.le_of_ble_eq_true rfl) (m_X1_score E hc) ?_
    refine g_goto (tgt := 123) C dX1_answer_119 (by decide) ?_
    refine g_sub [1, 2, 3, 4, 5, 6, 7] rfl ?_
    exact w_X1_answer_b123 C E Q h12 _ _ _ _ _ _ _ _ _ hd
theorem w_X1_answer_b97 {K : KT} {r : Option Nat} {S1 : St} (C : GC K RX1 cX1_answer 12 9 []) (E : EH (kΓ K) (kHI K) (kl K)) (Q : GQ K (some (Jvm.ClassFile.FieldType.object "java/util/List")) (.inl (some (vR r))) S1) {k12 : St → Option Nat → Int32 → Int32 → Int32 → Option Nat → Option Nat → Int32 → Option (Option Nat × St)} (h12 : ∀ (S : St) (x0 : Option Nat) (x1 : Int32) (x2 : Int32) (x3 : Int32) (x4 : Option Nat) (x5 : Option Nat) (x6 : Int32), k12 S x0 x1 x2 x3 x4 x5 x6 = some (r, S1) → G K 12 S 12 [(0, vR x0), (1, vI x1), (2, vI x2), (3, vI x3), (4, vR x4), (5, vR x5), (6, vI x6)] []) : ∀ (S : St) (x0 : Option Nat) (x1 : Int32) (x2 : Int32) (x3 : Int32) (x4 : Option Nat) (x5 : Option Nat) (x6 : Int32) (x7 : Option Nat), n_X1_answer_b97 k12 S x0 x1 x2 x3 x4 x5 x6 x7 = some (r, S1) → G K 12 S 97 [(0, vR x0), (1, vI x1), (2, vI x2), (3, vI x3), (4, vR x4), (5, vR x5), (6, vI x6), (7, vR x7)] [] := by
  intro S x0 x1 x2 x3 x4 x5 x6 x7 hd
  unfold n_X1_answer_b97 at hd
  refine g_iconst (v := 1) C dX1_answer_97 (by decide) ?_
  refine g_goto (tgt := 102) C dX1_answer_98 (by decide) ?_
  refine g_sub [0, 1, 2, 3, 4, 5, 6, 7] rfl ?_
  exact w_X1_answer_b102 C E Q h12 _ _ _ _ _ _ _ _ _ _ hd
theorem w_X1_answer_b101 {K : KT} {r : Option Nat} {S1 : St} (C : GC K RX1 cX1_answer 12 9 []) (E : EH (kΓ K) (kHI K) (kl K)) (Q : GQ K (some (Jvm.ClassFile.FieldType.object "java/util/List")) (.inl (some (vR r))) S1) {k12 : St → Option Nat → Int32 → Int32 → Int32 → Option Nat → Option Nat → Int32 → Option (Option Nat × St)} (h12 : ∀ (S : St) (x0 : Option Nat) (x1 : Int32) (x2 : Int32) (x3 : Int32) (x4 : Option Nat) (x5 : Option Nat) (x6 : Int32), k12 S x0 x1 x2 x3 x4 x5 x6 = some (r, S1) → G K 12 S 12 [(0, vR x0), (1, vI x1), (2, vI x2), (3, vI x3), (4, vR x4), (5, vR x5), (6, vI x6)] []) : ∀ (S : St) (x0 : Option Nat) (x1 : Int32) (x2 : Int32) (x3 : Int32) (x4 : Option Nat) (x5 : Option Nat) (x6 : Int32) (x7 : Option Nat), n_X1_answer_b101 k12 S x0 x1 x2 x3 x4 x5 x6 x7 = some (r, S1) → G K 12 S 101 [(0, vR x0), (1, vI x1), (2, vI x2), (3, vI x3), (4, vR x4), (5, vR x5), (6, vI x6), (7, vR x7)] [] := by
  intro S x0 x1 x2 x3 x4 x5 x6 x7 hd
  unfold n_X1_answer_b101 at hd
  refine g_iconst (v := 0) C dX1_answer_101 (by decide) ?_
  refine g_sub [0, 1, 2, 3, 4, 5, 6, 7] rfl ?_
  exact w_X1_answer_b102 C E Q h12 _ _ _ _ _ _ _ _ _ _ hd
theorem w_X1_answer_b12 {K : KT} {r : Option Nat} {S1 : St} (C : GC K RX1 cX1_answer 12 9 []) (E : EH (kΓ K) (kHI K) (kl K)) (Q : GQ K (some (Jvm.ClassFile.FieldType.object "java/util/List")) (.inl (some (vR r))) S1) : ∀ (n : Nat) (S : St) (x0 : Option Nat) (x1 : Int32) (x2 : Int32) (x3 : Int32) (x4 : Option Nat) (x5 : Option Nat) (x6 : Int32), n_X1_answer_b12 n S x0 x1 x2 x3 x4 x5 x6 = some (r, S1) → G K 12 S 12 [(0, vR x0), (1, vI x1), (2, vI x2), (3, vI x3), (4, vR x4), (5, vR x5), (6, vI x6)] [] := by
  intro n
  induction n with
  | zero => intro S x0 x1 x2 x3 x4 x5 x6 hd; cases hd
  | succ n ih =>
    intro S x0 x1 x2 x3 x4 x5 x6 hd
    unfold n_X1_answer_b12 at hd
    refine g_iload C dX1_answer_12 6 rfl ?_
    refine g_aload_n C dX1_answer_14 rfl 0 rfl ?_
    obtain ⟨v1, hv1, hd⟩ := Option.bind_eq_some_iff.mp hd
    refine g_fld C gk_X1 (k := 0) (by decide) q385 (Or.inl rfl) dX1_answer_15 (gR_v hv1) ?_
    obtain ⟨hg, hd⟩ := gd_some hd
    obtain ⟨v3, S2, hc, hd⟩ := bn_some hd
    refine g_cF_v (n := 0) C (gk_J2).1 q427 q432 q430 q98 q434 (List.mem_of_getElem? (i := 1) rfl) (by decide +kernel) (by decide) (by decide) dX1_answer_18 (As := []) (rest := [vI x6]) rfl rfl (Nat.le_of_ble_eq_true rfl) hg (mh_J2_size E hc) ?_
    refine g_icmp_ge (tgt := 200) C dX1_answer_23 (by decide) hd (fun hd => ?_) (fun hd => ?_)
    · refine g_aload C dX1_answer_200 5 rfl ?_
      exact g_aret C Q (Or.inl ⟨_, rfl⟩) hd dX1_answer_202
    · refine g_aload_n C dX1_answer_26 rfl 0 rfl ?_
      obtain ⟨v4, hv4, hd⟩ := Option.bind_eq_some_iff.mp hd
      refine g_fld C gk_X1 (k := 2) (by decide) q387 (Or.inl rfl) dX1_answer_27 (gR_v hv4) ?_
      refine g_iload C dX1_answer_30 6 rfl ?_
      obtain ⟨v5, hv5, hd⟩ := Option.bind_eq_some_iff.mp hd
      refine g_aald C 5 (by decide) dX1_answer_32 hv5 ?_
      refine g_astore (L' := [(7, vR v5), (0, vR x0), (1, vI x1), (2, vI x2), (3, vI x3), (4, vR x4), (5, vR x5), (6, vI x6)]) C dX1_answer_33 (by decide) rfl ?_
      refine g_aload_n C dX1_answer_35 rfl 1 rfl ?_
      obtain ⟨v6, hv6, hd⟩ := Option.bind_eq_some_iff.mp hd
      refine g_fld C gk_X1 (k := 0) (by decide) q385 (Or.inl rfl) dX1_answer_36 (gR_v hv6) ?_
      refine g_iload C dX1_answer_39 7 rfl ?_
      obtain ⟨hg, hd⟩ := gd_some hd
      obtain ⟨v8, S7, hc, hd⟩ := bn_some hd
      refine g_cF_v (n := 1) C (gk_J2).1 q441 q446 q444 q98 q448 (List.mem_of_getElem? (i := 2) rfl) (by decide +kernel) (by decide) (by decide) dX1_answer_41 (As := [vI x6]) (rest := []) rfl rfl (Nat.le_of_ble_eq_true rfl) hg (mh_J2_get E hc) ?_
      refine g_cast C (gk_X2).1 q231 dX1_answer_46 hd (fun hd => ?_)
      refine g_astore (L' := [(8, vR v8), (7, vR v5), (0, vR x0), (1, vI x1), (2, vI x2), (3, vI x3), (4, vR x4), (5, vR x5), (6, vI x6)]) C dX1_answer_49 (by decide) rfl ?_
      refine g_aload C dX1_answer_51 1 rfl ?_
      refine g_ifnull (tgt := 101) C dX1_answer_53 (by decide) hd (fun hd => ?_) (fun hd => ?_)
      · refine g_sub [2, 3, 4, 5, 6, 7, 8, 1] rfl ?_
        exact w_X1_answer_b101 C E Q ih _ _ _ _ _ _ _ _ _ hd
      · refine g_aload C dX1_answer_56 0 rfl ?_
        obtain ⟨v9, hv9, hd⟩ := Option.bind_eq_some_iff.mp hd
        refine g_fldN C gk_X2 (k := 1) (by decide) q242 rfl dX1_answer_58 (gI_v hv9) ?_
        refine g_if_ne (tgt := 101) C dX1_answer_61 (by decide) hd (fun hd => ?_) (fun hd => ?_)
        · refine g_sub [2, 3, 4, 5, 6, 7, 8, 1] rfl ?_
          exact w_X1_answer_b101 C E Q ih _ _ _ _ _ _ _ _ _ hd
        · refine g_aload C dX1_answer_64 0 rfl ?_
          obtain ⟨v10, hv10, hd⟩ := Option.bind_eq_some_iff.mp hd
          refine g_fldN C gk_X2 (k := 8) (by decide) q253 rfl dX1_answer_66 (gI_v hv10) ?_
          refine g_if_ne (tgt := 101) C dX1_answer_69 (by decide) hd (fun hd => ?_) (fun hd => ?_)
          · refine g_sub [2, 3, 4, 5, 6, 7, 8, 1] rfl ?_
            exact w_X1_answer_b101 C E Q ih _ _ _ _ _ _ _ _ _ hd
          · refine g_aload C dX1_answer_72 0 rfl ?_
            refine g_iload_n C dX1_answer_74 rfl 3 rfl ?_
            obtain ⟨hg, hd⟩ := gd_some hd
            obtain ⟨v12, S11, hc, hd⟩ := bn_some hd
            refine g_cV_v (n := 1) C (gk_X2).1 q1416 q1417 q1418 q102 q1419 (by decide +kernel) (by decide) (by decide) dX1_answer_75 (As := [vI x1]) (rest := []) rfl rfl (Nat.le_of_ble_eq_true rfl) hg (m_X2_mayBeRead E hc) ?_
            refine g_if_eq (tgt := 101) C dX1_answer_78 (by decide) hd (fun hd => ?_) (fun hd => ?_)
            · refine g_sub [2, 3, 4, 5, 6, 7, 8, 1] rfl ?_
              exact w_X1_answer_b101 C E Q ih _ _ _ _ _ _ _ _ _ hd
            · refine g_aload C dX1_answer_81 6 rfl ?_
              refine g_ifnull (tgt := 97) C dX1_answer_83 (by decide) hd (fun hd => ?_) (fun hd => ?_)
              · refine g_sub [2, 3, 4, 5, 6, 7, 8, 1] rfl ?_
                exact w_X1_answer_b97 C E Q ih _ _ _ _ _ _ _ _ _ hd
              · refine g_aload_n C dX1_answer_86 rfl 2 rfl ?_
                refine g_aload C dX1_answer_87 0 rfl ?_
                refine g_aload C dX1_answer_89 6 rfl ?_
                obtain ⟨hg, hd⟩ := gd_some hd
                obtain ⟨v14, S13, hc, hd⟩ := bn_some hd
                refine g_cV_v (n := 2) C (gk_X1).1 q1649 q1651 qs37 q95 q1652 (by decide +kernel) (by decide) (by decide) dX1_answer_91 (As := [vR v8, vR x4]) (rest := []) rfl rfl (Nat.le_of_ble_eq_true rfl) hg (m_X1_isKnownBelow E hc) ?_
                refine g_if_eq (tgt := 101) C dX1_answer_94 (by decide) hd (fun hd => ?_) (fun hd => ?_)
                · refine g_sub [2, 3, 4, 5, 6, 7, 8, 1] rfl ?_
                  exact w_X1_answer_b101 C E Q ih _ _ _ _ _ _ _ _ _ hd
                · refine g_sub [2, 3, 4, 5, 6, 7, 8, 1] rfl ?_
                  exact w_X1_answer_b97 C E Q ih _ _ _ _ _ _ _ _ _ hd
theorem w_X1_answer_b0m {K : KT} {r : Option Nat} {S1 : St} (C : GC K RX1 cX1_answer 12 9 []) (E : EH (kΓ K) (kHI K) (kl K)) (Q : GQ K (some (Jvm.ClassFile.FieldType.object "java/util/List")) (.inl (some (vR r))) S1) : ∀ (S : St) (x0 : Option Nat) (x1 : Int32) (x2 : Int32) (x3 : Int32) (x4 : Option Nat), n_X1_answer S x0 x1 x2 x3 x4 = some (r, S1) → G K 12 S 0 [(0, vR x0), (1, vI x1), (2, vI x2), (3, vI x3), (4, vR x4)] [] := by
  intro S x0 x1 x2 x3 x4 hd
  unfold n_X1_answer at hd
  refine g_new C gk_J2 (fun j hj => gdf_J2 j hj) q151 q152 q98 dX1_answer_0 hd (fun q1 S2 hd => ?_)
  refine g_dup C dX1_answer_3 rfl ?_
  obtain ⟨hg, hd⟩ := gd_some hd
  obtain ⟨_, S3, hc, hd⟩ := bn_some hd
  refine g_cI_n (n := 0) C q153 q154 q98 q155 rfl (by decide +kernel) (by decide) (by decide) dX1_answer_4 (As := []) (rest := [vR q1]) rfl rfl (Nat.le_of_ble_eq_true rfl) hg (mh_J2_init E hc) ?_
  refine g_astore (L' := [(5, vR q1), (0, vR x0), (1, vI x1), (2, vI x2), (3, vI x3), (4, vR x4)]) C dX1_answer_7 (by decide) rfl ?_
  refine g_iconst (v := 0) C dX1_answer_9 (by decide) ?_
  refine g_istore (L' := [(6, vI (0 : Int32)), (5, vR q1), (0, vR x0), (1, vI x1), (2, vI x2), (3, vI x3), (4, vR x4)]) C dX1_answer_10 (by decide) rfl ?_
  refine g_sub [2, 3, 4, 5, 6, 1, 0] rfl ?_
  exact w_X1_answer_b12 C E Q FU _ _ _ _ _ _ _ _ hd
theorem m_X1_answer {Γ : GG} {HI : St → Heap → Prop} {l : Launch} (E : EH Γ HI l) {S : St} {a0 : Option Nat} {a1 : Int32} {a2 : Int32} {a3 : Int32} {a4 : Option Nat} {r : Option Nat} {S1 : St} (h : n_X1_answer S a0 a1 a2 a3 a4 = some (r, S1)) : MS Γ HI l yX1_answer cX1_answer 12 (some (Jvm.ClassFile.FieldType.object "java/util/List")) 9 S [vR a0, vI a1, vI a2, vI a3, vR a4] (.inl (some (vR r))) S1 := by
  refine MS_of E.ntr E.hx (by decide +kernel) rfl (Nat.le_of_ble_eq_true rfl) fun K e1 e2 e3 e4 hnm C Q => ?_
  subst e1; subst e2; subst e3
  exact w_X1_answer_b0m C E Q S a0 a1 a2 a3 a4 h

def n_X1_answers (S : St) (x0 : Option Nat) (x1 : Int32) (x2 : Int32) (x3 : Int32) (x4 : Int32) : Option ((Int32 ⊕ String) × St) :=
  tbn (n_X1_checkPerson S x1) fun _ S1 =>
  gd (grc S1 x0 0) <|
  tbn (n_X1_folderOr S1 x0 x4) fun v4 S3 =>
  tbn (n_X1_checkWords S3 x2 x3) fun _ S5 =>
  gd (grc S5 x0 0) <|
  bn (n_X1_answer S5 x0 x1 x2 x3 v4) fun v8 S7 =>
  gd (grc S7 v8 8) <|
  bn (h_J2_size S7 v8) fun v10 S9 =>
  rtI Sum.inl (Jvm.ClassFile.FieldType.int) v10 S9
theorem w_X1_answers_b0m {K : KT} {r : (Int32 ⊕ String)} {S1 : St} (C : GC K RX1 cX1_answers 6 10 []) (E : EH (kΓ K) (kHI K) (kl K)) (Q : GQ K (some (Jvm.ClassFile.FieldType.int)) (resI r) S1) : ∀ (S : St) (x0 : Option Nat) (x1 : Int32) (x2 : Int32) (x3 : Int32) (x4 : Int32), n_X1_answers S x0 x1 x2 x3 x4 = some (r, S1) → G K 6 S 0 [(0, vR x0), (1, vI x1), (2, vI x2), (3, vI x3), (4, vI x4)] [] := by
  intro S x0 x1 x2 x3 x4 hd
  unfold n_X1_answers at hd
  refine g_iload_n C dX1_answers_0 rfl 1 rfl ?_
  rcases tbn_some hd with ⟨X9, S1, hc, hz⟩ | ⟨_, S1, hc, hd⟩
  · cases hz; exact g_cS_x (n := 1) C q1413 q1414 q95 q1415 (by decide +kernel) (by decide) (by decide) dX1_answers_1 (As := [vI x1]) (rest := []) rfl rfl (Nat.le_of_ble_eq_true rfl) (m_X1_checkPerson E hc) (g_out C Q)
  refine g_cS_n (n := 1) C q1413 q1414 q95 q1415 (by decide +kernel) (by decide) (by decide) dX1_answers_1 (As := [vI x1]) (rest := []) rfl rfl (Nat.le_of_ble_eq_true rfl) (m_X1_checkPerson E hc) ?_
  refine g_aload_n C dX1_answers_4 rfl 0 rfl ?_
  refine g_iload C dX1_answers_5 4 rfl ?_
  obtain ⟨hg, hd⟩ := gd_some hd
  rcases tbn_some hd with ⟨X9, S3, hc, hz⟩ | ⟨v4, S3, hc, hd⟩
  · cases hz; exact g_cV_x (n := 1) C (gk_X1).1 q1902 q1904 qs49 q95 q1905 (by decide +kernel) (by decide) (by decide) dX1_answers_7 (As := [vI x4]) (rest := []) rfl rfl (Nat.le_of_ble_eq_true rfl) hg (m_X1_folderOr E hc) (g_out C Q)
  refine g_cV_v (n := 1) C (gk_X1).1 q1902 q1904 qs49 q95 q1905 (by decide +kernel) (by decide) (by decide) dX1_answers_7 (As := [vI x4]) (rest := []) rfl rfl (Nat.le_of_ble_eq_true rfl) hg (m_X1_folderOr E hc) ?_
  refine g_astore (L' := [(5, vR v4), (0, vR x0), (1, vI x1), (2, vI x2), (3, vI x3), (4, vI x4)]) C dX1_answers_10 (by decide) rfl ?_
  refine g_iload_n C dX1_answers_12 rfl 3 rfl ?_
  refine g_iload_n C dX1_answers_13 rfl 4 rfl ?_
  rcases tbn_some hd with ⟨X9, S5, hc, hz⟩ | ⟨_, S5, hc, hd⟩
  · cases hz; exact g_cS_x (n := 2) C q1906 q1907 q95 q1908 (by decide +kernel) (by decide) (by decide) dX1_answers_14 (As := [vI x2, vI x3]) (rest := []) rfl rfl (Nat.le_of_ble_eq_true rfl) (m_X1_checkWords E hc) (g_out C Q)
  refine g_cS_n (n := 2) C q1906 q1907 q95 q1908 (by decide +kernel) (by decide) (by decide) dX1_answers_14 (As := [vI x2, vI x3]) (rest := []) rfl rfl (Nat.le_of_ble_eq_true rfl) (m_X1_checkWords E hc) ?_
  refine g_aload_n C dX1_answers_17 rfl 1 rfl ?_
  refine g_iload_n C dX1_answers_18 rfl 2 rfl ?_
  refine g_iload_n C dX1_answers_19 rfl 3 rfl ?_
  refine g_iload_n C dX1_answers_20 rfl 4 rfl ?_
  refine g_aload C dX1_answers_21 0 rfl ?_
  obtain ⟨hg, hd⟩ := gd_some hd
  obtain ⟨v8, S7, hc, hd⟩ := bn_some hd
  refine g_cV_v (n := 4) C (gk_X1).1 q1909 q1911 qs50 q95 q1912 (by decide +kernel) (by decide) (by decide) dX1_answers_23 (As := [vI x1, vI x2, vI x3, vR v4]) (rest := []) rfl rfl (Nat.le_of_ble_eq_true rfl) hg (m_X1_answer E hc) ?_
  obtain ⟨hg, hd⟩ := gd_some hd
  obtain ⟨v10, S9, hc, hd⟩ := bn_some hd
  refine g_cF_v (n := 0) C (gk_J2).1 q427 q432 q430 q98 q434 (List.mem_of_getElem? (i := 1) rfl) (by decide +kernel) (by decide) (by decide) dX1_answers_26 (As := []) (rest := []) rfl rfl (Nat.le_of_ble_eq_true rfl) hg (mh_J2_size E hc) ?_
  exact g_iretT C Q hd dX1_answers_31
theorem m_X1_answers {Γ : GG} {HI : St → Heap → Prop} {l : Launch} (E : EH Γ HI l) {S : St} {a0 : Option Nat} {a1 : Int32} {a2 : Int32} {a3 : Int32} {a4 : Int32} {r : (Int32 ⊕ String)} {S1 : St} (h : n_X1_answers S a0 a1 a2 a3 a4 = some (r, S1)) : MS Γ HI l yX1_answers cX1_answers 6 (some (Jvm.ClassFile.FieldType.int)) 10 S [vR a0, vI a1, vI a2, vI a3, vI a4] (resI r) S1 := by
  refine MS_of E.ntr E.hx (by decide +kernel) rfl (Nat.le_of_ble_eq_true rfl) fun K e1 e2 e3 e4 hnm C Q => ?_
  subst e1; subst e2; subst e3
  exact w_X1_answers_b0m C E Q S a0 a1 a2 a3 a4 h

def n_X1_answersAnew_b158 (k23 : St → Option Nat → Int32 → Int32 → Int32 → Option Nat → Int32 → Int32 → Option ((Int32 ⊕ String) × St)) (S : St) (x0 : Option Nat) (x1 : Int32) (x2 : Int32) (x3 : Int32) (x5 : Option Nat) (x7 : Int32) (y0 : Int32) (y1 : Int32) : Option ((Int32 ⊕ String) × St) :=
  k23 S x0 x1 x2 x3 x5 (y1 + y0) (x7 + 1)
def n_X1_answersAnew_b157 (k23 : St → Option Nat → Int32 → Int32 → Int32 → Option Nat → Int32 → Int32 → Option ((Int32 ⊕ String) × St)) (S : St) (x0 : Option Nat) (x1 : Int32) (x2 : Int32) (x3 : Int32) (x5 : Option Nat) (x7 : Int32) (y0 : Int32) : Option ((Int32 ⊕ String) × St) :=
  n_X1_answersAnew_b158 k23 S x0 x1 x2 x3 x5 x7 (0 : Int32) y0
def n_X1_answersAnew_b113 (k23 : St → Option Nat → Int32 → Int32 → Int32 → Option Nat → Int32 → Int32 → Option ((Int32 ⊕ String) × St)) (S : St) (x0 : Option Nat) (x1 : Int32) (x2 : Int32) (x3 : Int32) (x5 : Option Nat) (x6 : Int32) (x7 : Int32) (x8 : Option Nat) (y0 : Int32) : Option ((Int32 ⊕ String) × St) :=
  if y0 = 0 then
    n_X1_answersAnew_b157 k23 S x0 x1 x2 x3 x5 x7 x6
  else
    nwB S (cO 6 [vR none, vI 0, vI 0, vR none, vI 0]) 5 fun q1 S2 =>
    (gR S2 x8 1 5).bind fun v3 =>
    (gI S2 x0 0 10).bind fun v4 =>
    (gI S2 x0 0 11).bind fun v5 =>
    gd (q1).isSome <|
    bn (n_X8_init S2 q1 v3 v4 v5) fun _ S6 =>
    (gR S6 q1 6 3).bind fun v8 =>
    bn (n_X1_score S6 v8 x2 x3) fun v10 S9 =>
    if v10 ≤ 0 then
      n_X1_answersAnew_b157 k23 S9 x0 x1 x2 x3 x5 x7 x6
    else
      n_X1_answersAnew_b158 k23 S9 x0 x1 x2 x3 x5 x7 (1 : Int32) x6
def n_X1_answersAnew_b108 (k23 : St → Option Nat → Int32 → Int32 → Int32 → Option Nat → Int32 → Int32 → Option ((Int32 ⊕ String) × St)) (S : St) (x0 : Option Nat) (x1 : Int32) (x2 : Int32) (x3 : Int32) (x5 : Option Nat) (x6 : Int32) (x7 : Int32) (x8 : Option Nat) : Option ((Int32 ⊕ String) × St) :=
  n_X1_answersAnew_b113 k23 S x0 x1 x2 x3 x5 x6 x7 x8 (1 : Int32)
def n_X1_answersAnew_b112 (k23 : St → Option Nat → Int32 → Int32 → Int32 → Option Nat → Int32 → Int32 → Option ((Int32 ⊕ String) × St)) (S : St) (x0 : Option Nat) (x1 : Int32) (x2 : Int32) (x3 : Int32) (x5 : Option Nat) (x6 : Int32) (x7 : Int32) (x8 : Option Nat) : Option ((Int32 ⊕ String) × St) :=
  n_X1_answersAnew_b113 k23 S x0 x1 x2 x3 x5 x6 x7 x8 (0 : Int32)
def n_X1_answersAnew_b23 : Nat → St → Option Nat → Int32 → Int32 → Int32 → Option Nat → Int32 → Int32 → Option ((Int32 ⊕ String) × St)
  | 0 => fun _ _ _ _ _ _ _ _ => none
  | n + 1 => fun S x0 x1 x2 x3 x5 x6 x7 =>
    (gR S x0 0 0).bind fun v1 =>
    gd (grc S v1 8) <|
    bn (h_J2_size S v1) fun v3 S2 =>
    if v3 ≤ x7 then
      rtI Sum.inl (Jvm.ClassFile.FieldType.int) x6 S2
    else
      (gR S2 x0 0 0).bind fun v4 =>
      gd (grc S2 v4 8) <|
      bn (h_J2_get S2 v4 x7) fun v6 S5 =>
      gd (gcst S5 v6 1) <|
      gd (grc S5 x0 0) <|
      bn (n_X1_above S5 x0 v6) fun v8 S7 =>
      if v8 = none then
        n_X1_answersAnew_b112 (n_X1_answersAnew_b23 n) S7 x0 x1 x2 x3 x5 x6 x7 v6
      else
        (gI S7 v6 1 1).bind fun v9 =>
        if v9 = 0 then
          gd (grc S7 v6 1) <|
          bn (n_X2_mayBeRead S7 v6 x1) fun v11 S10 =>
          if v11 = 0 then
            n_X1_answersAnew_b112 (n_X1_answersAnew_b23 n) S10 x0 x1 x2 x3 x5 x6 x7 v6
          else
            if x5 = none then
              n_X1_answersAnew_b108 (n_X1_answersAnew_b23 n) S10 x0 x1 x2 x3 x5 x6 x7 v6
            else
              gd (grc S10 v6 1) <|
              bn (n_X2_isBelow S10 v6 x5) fun v13 S12 =>
              if v13 = 0 then
                n_X1_answersAnew_b112 (n_X1_answersAnew_b23 n) S12 x0 x1 x2 x3 x5 x6 x7 v6
              else
                gd (grc S12 v8 4) <|
                bn (n_X6_hasAll S12 v8 x5) fun v15 S14 =>
                if v15 = 0 then
                  n_X1_answersAnew_b112 (n_X1_answersAnew_b23 n) S14 x0 x1 x2 x3 x5 x6 x7 v6
                else
                  n_X1_answersAnew_b108 (n_X1_answersAnew_b23 n) S14 x0 x1 x2 x3 x5 x6 x7 v6
        else
          n_X1_answersAnew_b112 (n_X1_answersAnew_b23 n) S7 x0 x1 x2 x3 x5 x6 x7 v6
def n_X1_answersAnew (S : St) (x0 : Option Nat) (x1 : Int32) (x2 : Int32) (x3 : Int32) (x4 : Int32) : Option ((Int32 ⊕ String) × St) :=
  tbn (n_X1_checkPerson S x1) fun _ S1 =>
  gd (grc S1 x0 0) <|
  tbn (n_X1_folderOr S1 x0 x4) fun v4 S3 =>
  tbn (n_X1_checkWords S3 x2 x3) fun _ S5 =>
  n_X1_answersAnew_b23 FU S5 x0 x1 x2 x3 v4 (0 : Int32) (0 : Int32)
theorem w_X1_answersAnew_b158 {K : KT} {r : (Int32 ⊕ String)} {S1 : St} (C : GC K RX1 cX1_answersAnew 11 36 []) (E : EH (kΓ K) (kHI K) (kl K)) (Q : GQ K (some (Jvm.ClassFile.FieldType.int)) (resI r) S1) {k23 : St → Option Nat → Int32 → Int32 → Int32 → Option Nat → Int32 → Int32 → Option ((Int32 ⊕ String) × St)} (h23 : ∀ (S : St) (x0 : Option Nat) (x1 : Int32) (x2 : Int32) (x3 : Int32) (x5 : Option Nat) (x6 : Int32) (x7 : Int32), k23 S x0 x1 x2 x3 x5 x6 x7 = some (r, S1) → G K 11 S 23 [(0, vR x0), (1, vI x1), (2, vI x2), (3, vI x3), (5, vR x5), (6, vI x6), (7, vI x7)] []) : ∀ (S : St) (x0 : Option Nat) (x1 : Int32) (x2 : Int32) (x3 : Int32) (x5 : Option Nat) (x7 : Int32) (y0 : Int32) (y1 : Int32), n_X1_answersAnew_b158 k23 S x0 x1 x2 x3 x5 x7 y0 y1 = some (r, S1) → G K 11 S 158 [(0, vR x0), (1, vI x1), (2, vI x2), (3, vI x3), (5, vR x5), (7, vI x7)] [vI y0, vI y1] := by
  intro S x0 x1 x2 x3 x5 x7 y0 y1 hd
  unfold n_X1_answersAnew_b158 at hd
  refine g_iadd C dX1_answersAnew_158 ?_
  refine g_istore (L' := [(6, vI (y1 + y0)), (0, vR x0), (1, vI x1), (2, vI x2), (3, vI x3), (5, vR x5), (7, vI x7)]) C dX1_answersAnew_159 (by decide) rfl ?_
  refine g_iinc (v := x7 + 1) (L' := [(7, vI (x7 + 1)), (6, vI (y1 + y0)), (0, vR x0), (1, vI x1), (2, vI x2), (3, vI x3), (5, vR x5)]) C dX1_answersAnew_161 6 rfl rfl (by decide) rfl ?_
  refine g_goto (tgt := 23) C dX1_answersAnew_164 (by decide) ?_
  refine g_sub [2, 3, 4, 5, 6, 1, 0] rfl ?_
  exact h23 _ _ _ _ _ _ _ _ hd
theorem w_X1_answersAnew_b157 {K : KT} {r : (Int32 ⊕ String)} {S1 : St} (C : GC K RX1 cX1_answersAnew 11 36 []) (E : EH (kΓ K) (kHI K) (kl K)) (Q : GQ K (some (Jvm.ClassFile.FieldType.int)) (resI r) S1) {k23 : St → Option Nat → Int32 → Int32 → Int32 → Option Nat → Int32 → Int32 → Option ((Int32 ⊕ String) × St)} (h23 : ∀ (S : St) (x0 : Option Nat) (x1 : Int32) (x2 : Int32) (x3 : Int32) (x5 : Option Nat) (x6 : Int32) (x7 : Int32), k23 S x0 x1 x2 x3 x5 x6 x7 = some (r, S1) → G K 11 S 23 [(0, vR x0), (1, vI x1), (2, vI x2), (3, vI x3), (5, vR x5), (6, vI x6), (7, vI x7)] []) : ∀ (S : St) (x0 : Option Nat) (x1 : Int32) (x2 : Int32) (x3 : Int32) (x5 : Option Nat) (x7 : Int32) (y0 : Int32), n_X1_answersAnew_b157 k23 S x0 x1 x2 x3 x5 x7 y0 = some (r, S1) → G K 11 S 157 [(0, vR x0), (1, vI x1), (2, vI x2), (3, vI x3), (5, vR x5), (7, vI x7)] [vI y0] := by
  intro S x0 x1 x2 x3 x5 x7 y0 hd
  unfold n_X1_answersAnew_b157 at hd
  refine g_iconst (v := 0) C dX1_answersAnew_157 (by decide) ?_
  refine g_sub [0, 1, 2, 3, 4, 5] rfl ?_
  exact w_X1_answersAnew_b158 C E Q h23 _ _ _ _ _ _ _ _ _ hd
theorem w_X1_answersAnew_b113 {K : KT} {r : (Int32 ⊕ String)} {S1 : St} (C : GC K RX1 cX1_answersAnew 11 36 []) (E : EH (kΓ K) (kHI K) (kl K)) (Q : GQ K (some (Jvm.ClassFile.FieldType.int)) (resI r) S1) {k23 : St → Option Nat → Int32 → Int32 → Int32 → Option Nat → Int32 → Int32 → Option ((Int32 ⊕ String) × St)} (h23 : ∀ (S : St) (x0 : Option Nat) (x1 : Int32) (x2 : Int32) (x3 : Int32) (x5 : Option Nat) (x6 : Int32) (x7 : Int32), k23 S x0 x1 x2 x3 x5 x6 x7 = some (r, S1) → G K 11 S 23 [(0, vR x0), (1, vI x1), (2, vI x2), (3, vI x3), (5, vR x5), (6, vI x6), (7, vI x7)] []) : ∀ (S : St) (x0 : Option Nat) (x1 : Int32) (x2 : Int32) (x3 : Int32) (x5 : Option Nat) (x6 : Int32) (x7 : Int32) (x8 : Option Nat) (y0 : Int32), n_X1_answersAnew_b113 k23 S x0 x1 x2 x3 x5 x6 x7 x8 y0 = some (r, S1) → G K 11 S 113 [(0, vR x0), (1, vI x1), (2, vI x2), (3, vI x3), (5, vR x5), (6, vI x6), (7, vI x7), (8, vR x8)] [vI y0] := by
  intro S x0 x1 x2 x3 x5 x6 x7 x8 y0 hd
  unfold n_X1_answersAnew_b113 at hd
  refine g_istore (L' := [(10, vI y0), (0, vR x0), (1, vI x1), (2, vI x2), (3, vI x3), (5, vR x5), (6, vI x6), (7, vI x7), (8, vR x8)]) C dX1_answersAnew_113 (by decide) rfl ?_
  refine g_iload C dX1_answersAnew_115 6 rfl ?_
  refine g_iload C dX1_answersAnew_117 0 rfl ?_
  refine g_if_eq (tgt := 157) C dX1_answersAnew_119 (by decide) hd (fun hd => ?_) (fun hd => ?_)
  · refine g_sub [1, 2, 3, 4, 5, 7] rfl ?_
    exact w_X1_answersAnew_b157 C E Q h23 _ _ _ _ _ _ _ _ hd
  · refine g_new C gk_X8 (fun j hj => gdf_X8 j hj) q1705 q1706 q140 dX1_answersAnew_122 hd (fun q1 S2 hd => ?_)
    refine g_dup C dX1_answersAnew_125 rfl ?_
    refine g_aload C dX1_answersAnew_126 8 rfl ?_
    obtain ⟨v3, hv3, hd⟩ := Option.bind_eq_some_iff.mp hd
    refine g_fldN C gk_X2 (k := 5) (by decide) q249 rfl dX1_answersAnew_128 (gR_v hv3) ?_
    refine g_aload_n C dX1_answersAnew_131 rfl 1 rfl ?_
    obtain ⟨v4, hv4, hd⟩ := Option.bind_eq_some_iff.mp hd
    refine g_fld C gk_X1 (k := 10) (by decide) q395 (Or.inl rfl) dX1_answersAnew_132 (gI_v hv4) ?_
    refine g_aload_n C dX1_answersAnew_135 rfl 1 rfl ?_
    obtain ⟨v5, hv5, hd⟩ := Option.bind_eq_some_iff.mp hd
    refine g_fld C gk_X1 (k := 11) (by decide) q396 (Or.inl rfl) dX1_answersAnew_136 (gI_v hv5) ?_
    obtain ⟨hg, hd⟩ := gd_some hd
    obtain ⟨_, S6, hc, hd⟩ := bn_some hd
    refine g_cI_n (n := 3) C q1707 q1708 q140 q1709 rfl (by decide +kernel) (by decide) (by decide) dX1_answersAnew_139 (As := [vR v3, vI v4, vI v5]) (rest := [vR q1, vI x6]) rfl rfl (Nat.le_of_ble_eq_true rfl) hg (m_X8_init E hc) ?_
    obtain ⟨v8, hv8, hd⟩ := Option.bind_eq_some_iff.mp hd
    refine g_fldN C gk_X8 (k := 3) (by decide) q1734 rfl dX1_answersAnew_142 (gR_v hv8) ?_
    refine g_iload_n C dX1_answersAnew_145 rfl 3 rfl ?_
    refine g_iload_n C dX1_answersAnew_146 rfl 4 rfl ?_
    obtain ⟨v10, S9, hc, hd⟩ := bn_some hd
    refine g_cS_v (n := 3) C q1913 q1914 q95 q1915 (by decide +kernel) (by decide) (by decide) dX1_answersAnew_147 (As := [vR v8, vI x2, vI x3]) (rest := [vI x6]) rfl rfl (Nat.le_of_ble_eq_true rfl) (m_X1_score E hc) ?_
    refine g_if_le (tgt := 157) C dX1_answersAnew_150 (by decide) hd (fun hd => ?_) (fun hd => ?_)
    · refine g_sub [1, 2, 3, 4, 5, 7] rfl ?_
      exact w_X1_answersAnew_b157 C E Q h23 _ _ _ _ _ _ _ _ hd
    · refine g_iconst (v := 1) C dX1_answersAnew_153 (by decide) ?_
      refine g_goto (tgt := 158) C dX1_answersAnew_154 (by decide) ?_
      refine g_sub [1, 2, 3, 4, 5, 7] rfl ?_
      exact w_X1_answersAnew_b158 C E Q h23 _ _ _ _ _ _ _ _ _ hd
theorem w_X1_answersAnew_b108 {K : KT} {r : (Int32 ⊕ String)} {S1 : St} (C : GC K RX1 cX1_answersAnew 11 36 []) (E : EH (kΓ K) (kHI K) (kl K)) (Q : GQ K (some (Jvm.ClassFile.FieldType.int)) (resI r) S1) {k23 : St → Option Nat → Int32 → Int32 → Int32 → Option Nat → Int32 → Int32 → Option ((Int32 ⊕ String) × St)} (h23 : ∀ (S : St) (x0 : Option Nat) (x1 : Int32) (x2 : Int32) (x3 : Int32) (x5 : Option Nat) (x6 : Int32) (x7 : Int32), k23 S x0 x1 x2 x3 x5 x6 x7 = some (r, S1) → G K 11 S 23 [(0, vR x0), (1, vI x1), (2, vI x2), (3, vI x3), (5, vR x5), (6, vI x6), (7, vI x7)] []) : ∀ (S : St) (x0 : Option Nat) (x1 : Int32) (x2 : Int32) (x3 : Int32) (x5 : Option Nat) (x6 : Int32) (x7 : Int32) (x8 : Option Nat), n_X1_answersAnew_b108 k23 S x0 x1 x2 x3 x5 x6 x7 x8 = some (r, S1) → G K 11 S 108 [(0, vR x0), (1, vI x1), (2, vI x2), (3, vI x3), (5, vR x5), (6, vI x6), (7, vI x7), (8, vR x8)] [] := by
  intro S x0 x1 x2 x3 x5 x6 x7 x8 hd
  unfold n_X1_answersAnew_b108 at hd
  refine g_iconst (v := 1) C dX1_answersAnew_108 (by decide) ?_
  refine g_goto (tgt := 113) C dX1_answersAnew_109 (by decide) ?_
  refine g_sub [0, 1, 2, 3, 4, 5, 6, 7] rfl ?_
  exact w_X1_answersAnew_b113 C E Q h23 _ _ _ _ _ _ _ _ _ _ hd
theorem w_X1_answersAnew_b112 {K : KT} {r : (Int32 ⊕ String)} {S1 : St} (C : GC K RX1 cX1_answersAnew 11 36 []) (E : EH (kΓ K) (kHI K) (kl K)) (Q : GQ K (some (Jvm.ClassFile.FieldType.int)) (resI r) S1) {k23 : St → Option Nat → Int32 → Int32 → Int32 → Option Nat → Int32 → Int32 → Option ((Int32 ⊕ String) × St)} (h23 : ∀ (S : St) (x0 : Option Nat) (x1 : Int32) (x2 : Int32) (x3 : Int32) (x5 : Option Nat) (x6 : Int32) (x7 : Int32), k23 S x0 x1 x2 x3 x5 x6 x7 = some (r, S1) → G K 11 S 23 [(0, vR x0), (1, vI x1), (2, vI x2), (3, vI x3), (5, vR x5), (6, vI x6), (7, vI x7)] []) : ∀ (S : St) (x0 : Option Nat) (x1 : Int32) (x2 : Int32) (x3 : Int32) (x5 : Option Nat) (x6 : Int32) (x7 : Int32) (x8 : Option Nat), n_X1_answersAnew_b112 k23 S x0 x1 x2 x3 x5 x6 x7 x8 = some (r, S1) → G K 11 S 112 [(0, vR x0), (1, vI x1), (2, vI x2), (3, vI x3), (5, vR x5), (6, vI x6), (7, vI x7), (8, vR x8)] [] := by
  intro S x0 x1 x2 x3 x5 x6 x7 x8 hd
  unfold n_X1_answersAnew_b112 at hd
  refine g_iconst (v := 0) C dX1_answersAnew_112 (by decide) ?_
  refine g_sub [0, 1, 2, 3, 4, 5, 6, 7] rfl ?_
  exact w_X1_answersAnew_b113 C E Q h23 _ _ _ _ _ _ _ _ _ _ hd
theorem w_X1_answersAnew_b23 {K : KT} {r : (Int32 ⊕ String)} {S1 : St} (C : GC K RX1 cX1_answersAnew 11 36 []) (E : EH (kΓ K) (kHI K) (kl K)) (Q : GQ K (some (Jvm.ClassFile.FieldType.int)) (resI r) S1) : ∀ (n : Nat) (S : St) (x0 : Option Nat) (x1 : Int32) (x2 : Int32) (x3 : Int32) (x5 : Option Nat) (x6 : Int32) (x7 : Int32), n_X1_answersAnew_b23 n S x0 x1 x2 x3 x5 x6 x7 = some (r, S1) → G K 11 S 23 [(0, vR x0), (1, vI x1), (2, vI x2), (3, vI x3), (5, vR x5), (6, vI x6), (7, vI x7)] [] := by
  intro n
  induction n with
  | zero => intro S x0 x1 x2 x3 x5 x6 x7 hd; cases hd
  | succ n ih =>
    intro S x0 x1 x2 x3 x5 x6 x7 hd
    unfold n_X1_answersAnew_b23 at hd
    refine g_iload C dX1_answersAnew_23 6 rfl ?_
    refine g_aload_n C dX1_answersAnew_25 rfl 0 rfl ?_
    obtain ⟨v1, hv1, hd⟩ := Option.bind_eq_some_iff.mp hd
    refine g_fld C gk_X1 (k := 0) (by decide) q385 (Or.inl rfl) dX1_answersAnew_26 (gR_v hv1) ?_
    obtain ⟨hg, hd⟩ := gd_some hd
    obtain ⟨v3, S2, hc, hd⟩ := bn_some hd
    refine g_cF_v (n := 0) C (gk_J2).1 q427 q432 q430 q98 q434 (List.mem_of_getElem? (i := 1) rfl) (by decide +kernel) (by decide) (by decide) dX1_answersAnew_29 (As := []) (rest := [vI x7]) rfl rfl (Nat.le_of_ble_eq_true rfl) hg (mh_J2_size E hc) ?_
    refine g_icmp_ge (tgt := 167) C dX1_answersAnew_34 (by decide) hd (fun hd => ?_) (fun hd => ?_)
    · refine g_iload C dX1_answersAnew_167 5 rfl ?_
      exact g_iretT C Q hd dX1_answersAnew_169
    · refine g_aload_n C dX1_answersAnew_37 rfl 0 rfl ?_
      obtain ⟨v4, hv4, hd⟩ := Option.bind_eq_some_iff.mp hd
      refine g_fld C gk_X1 (k := 0) (by decide) q385 (Or.inl rfl) dX1_answersAnew_38 (gR_v hv4) ?_
      refine g_iload C dX1_answersAnew_41 6 rfl ?_
      obtain ⟨hg, hd⟩ := gd_some hd
      obtain ⟨v6, S5, hc, hd⟩ := bn_some hd
      refine g_cF_v (n := 1) C (gk_J2).1 q441 q446 q444 q98 q448 (List.mem_of_getElem? (i := 2) rfl) (by decide +kernel) (by decide) (by decide) dX1_answersAnew_43 (As := [vI x7]) (rest := []) rfl rfl (Nat.le_of_ble_eq_true rfl) hg (mh_J2_get E hc) ?_
      refine g_cast C (gk_X2).1 q231 dX1_answersAnew_48 hd (fun hd => ?_)
      refine g_astore (L' := [(8, vR v6), (0, vR x0), (1, vI x1), (2, vI x2), (3, vI x3), (5, vR x5), (6, vI x6), (7, vI x7)]) C dX1_answersAnew_51 (by decide) rfl ?_
      refine g_aload_n C dX1_answersAnew_53 rfl 1 rfl ?_
      refine g_aload C dX1_answersAnew_54 0 rfl ?_
      obtain ⟨hg, hd⟩ := gd_some hd
      obtain ⟨v8, S7, hc, hd⟩ := bn_some hd
      refine g_cV_v (n := 1) C (gk_X1).1 q1080 q1082 qs14 q95 q1083 (by decide +kernel) (by decide) (by decide) dX1_answersAnew_56 (As := [vR v6]) (rest := []) rfl rfl (Nat.le_of_ble_eq_true rfl) hg (m_X1_above E hc) ?_
      refine g_astore (L' := [(9, vR v8), (8, vR v6), (0, vR x0), (1, vI x1), (2, vI x2), (3, vI x3), (5, vR x5), (6, vI x6), (7, vI x7)]) C dX1_answersAnew_59 (by decide) rfl ?_
      refine g_aload C dX1_answersAnew_61 0 rfl ?_
      refine g_ifnull (tgt := 112) C dX1_answersAnew_63 (by decide) hd (fun hd => ?_) (fun hd => ?_)
      · refine g_sub [2, 3, 4, 5, 6, 7, 8, 1] rfl ?_
        exact w_X1_answersAnew_b112 C E Q ih _ _ _ _ _ _ _ _ _ hd
      · refine g_aload C dX1_answersAnew_66 1 rfl ?_
        obtain ⟨v9, hv9, hd⟩ := Option.bind_eq_some_iff.mp hd
        refine g_fldN C gk_X2 (k := 1) (by decide) q242 rfl dX1_answersAnew_68 (gI_v hv9) ?_
        refine g_if_ne (tgt := 112) C dX1_answersAnew_71 (by decide) hd (fun hd => ?_) (fun hd => ?_)
        · refine g_sub [2, 3, 4, 5, 6, 7, 8, 1] rfl ?_
          exact w_X1_answersAnew_b112 C E Q ih _ _ _ _ _ _ _ _ _ hd
        · refine g_aload C dX1_answersAnew_74 1 rfl ?_
          refine g_iload_n C dX1_answersAnew_76 rfl 3 rfl ?_
          obtain ⟨hg, hd⟩ := gd_some hd
          obtain ⟨v11, S10, hc, hd⟩ := bn_some hd
          refine g_cV_v (n := 1) C (gk_X2).1 q1416 q1417 q1418 q102 q1419 (by decide +kernel) (by decide) (by decide) dX1_answersAnew_77 (As := [vI x1]) (rest := []) rfl rfl (Nat.le_of_ble_eq_true rfl) hg (m_X2_mayBeRead E hc) ?_
          refine g_if_eq (tgt := 112) C dX1_answersAnew_80 (by decide) hd (fun hd => ?_) (fun hd => ?_)
          · refine g_sub [2, 3, 4, 5, 6, 7, 8, 1] rfl ?_
            exact w_X1_answersAnew_b112 C E Q ih _ _ _ _ _ _ _ _ _ hd
          · refine g_aload C dX1_answersAnew_83 6 rfl ?_
            refine g_ifnull (tgt := 108) C dX1_answersAnew_85 (by decide) hd (fun hd => ?_) (fun hd => ?_)
            · refine g_sub [2, 3, 4, 5, 6, 7, 8, 1] rfl ?_
              exact w_X1_answersAnew_b108 C E Q ih _ _ _ _ _ _ _ _ _ hd
            · refine g_aload C dX1_answersAnew_88 1 rfl ?_
              refine g_aload C dX1_answersAnew_90 6 rfl ?_
              obtain ⟨hg, hd⟩ := gd_some hd
              obtain ⟨v13, S12, hc, hd⟩ := bn_some hd
              refine g_cV_v (n := 1) C (gk_X2).1 q1084 q1085 q1086 q102 q1087 (by decide +kernel) (by decide) (by decide) dX1_answersAnew_92 (As := [vR x5]) (rest := []) rfl rfl (Nat.le_of_ble_eq_true rfl) hg (m_X2_isBelow E hc) ?_
              refine g_if_eq (tgt := 112) C dX1_answersAnew_95 (by decide) hd (fun hd => ?_) (fun hd => ?_)
              · refine g_sub [2, 3, 4, 5, 6, 7, 8, 1] rfl ?_
                exact w_X1_answersAnew_b112 C E Q ih _ _ _ _ _ _ _ _ _ hd
              · refine g_aload C dX1_answersAnew_98 0 rfl ?_
                refine g_aload C dX1_answersAnew_100 6 rfl ?_
                obtain ⟨hg, hd⟩ := gd_some hd
                obtain ⟨v15, S14, hc, hd⟩ := bn_some hd
                refine g_cV_v (n := 1) C (gk_X6).1 q1284 q1285 q1286 q137 q1287 (by decide +kernel) (by decide) (by decide) dX1_answersAnew_102 (As := [vR x5]) (rest := []) rfl rfl (Nat.le_of_ble_eq_true rfl) hg (m_X6_hasAll E hc) ?_
                refine g_if_eq (tgt := 112) C dX1_answersAnew_105 (by decide) hd (fun hd => ?_) (fun hd => ?_)
                · refine g_sub [2, 3, 4, 5, 6, 7, 8, 1] rfl ?_
                  exact w_X1_answersAnew_b112 C E Q ih _ _ _ _ _ _ _ _ _ hd
                · refine g_sub [2, 3, 4, 5, 6, 7, 8, 1] rfl ?_
                  exact w_X1_answersAnew_b108 C E Q ih _ _ _ _ _ _ _ _ _ hd
theorem w_X1_answersAnew_b0m {K : KT} {r : (Int32 ⊕ String)} {S1 : St} (C : GC K RX1 cX1_answersAnew 11 36 []) (E : EH (kΓ K) (kHI K) (kl K)) (Q : GQ K (some (Jvm.ClassFile.FieldType.int)) (resI r) S1) : ∀ (S : St) (x0 : Option Nat) (x1 : Int32) (x2 : Int32) (x3 : Int32) (x4 : Int32), n_X1_answersAnew S x0 x1 x2 x3 x4 = some (r, S1) → G K 11 S 0 [(0, vR x0), (1, vI x1), (2, vI x2), (3, vI x3), (4, vI x4)] [] := by
  intro S x0 x1 x2 x3 x4 hd
  unfold n_X1_answersAnew at hd
  refine g_iload_n C dX1_answersAnew_0 rfl 1 rfl ?_
  rcases tbn_some hd with ⟨X9, S1, hc, hz⟩ | ⟨_, S1, hc, hd⟩
  · cases hz; exact g_cS_x (n := 1) C q1413 q1414 q95 q1415 (by decide +kernel) (by decide) (by decide) dX1_answersAnew_1 (As := [vI x1]) (rest := []) rfl rfl (Nat.le_of_ble_eq_true rfl) (m_X1_checkPerson E hc) (g_out C Q)
  refine g_cS_n (n := 1) C q1413 q1414 q95 q1415 (by decide +kernel) (by decide) (by decide) dX1_answersAnew_1 (As := [vI x1]) (rest := []) rfl rfl (Nat.le_of_ble_eq_true rfl) (m_X1_checkPerson E hc) ?_
  refine g_aload_n C dX1_answersAnew_4 rfl 0 rfl ?_
  refine g_iload C dX1_answersAnew_5 4 rfl ?_
  obtain ⟨hg, hd⟩ := gd_some hd
  rcases tbn_some hd with ⟨X9, S3, hc, hz⟩ | ⟨v4, S3, hc, hd⟩
  · cases hz; exact g_cV_x (n := 1) C (gk_X1).1 q1902 q1904 qs49 q95 q1905 (by decide +kernel) (by decide) (by decide) dX1_answersAnew_7 (As := [vI x4]) (rest := []) rfl rfl (Nat.le_of_ble_eq_true rfl) hg (m_X1_folderOr E hc) (g_out C Q)
  refine g_cV_v (n := 1) C (gk_X1).1 q1902 q1904 qs49 q95 q1905 (by decide +kernel) (by decide) (by decide) dX1_answersAnew_7 (As := [vI x4]) (rest := []) rfl rfl (Nat.le_of_ble_eq_true rfl) hg (m_X1_folderOr E hc) ?_
  refine g_astore (L' := [(5, vR v4), (0, vR x0), (1, vI x1), (2, vI x2), (3, vI x3), (4, vI x4)]) C dX1_answersAnew_10 (by decide) rfl ?_
  refine g_iload_n C dX1_answersAnew_12 rfl 3 rfl ?_
  refine g_iload_n C dX1_answersAnew_13 rfl 4 rfl ?_
  rcases tbn_some hd with ⟨X9, S5, hc, hz⟩ | ⟨_, S5, hc, hd⟩
  · cases hz; exact g_cS_x (n := 2) C q1906 q1907 q95 q1908 (by decide +kernel) (by decide) (by decide) dX1_answersAnew_14 (As := [vI x2, vI x3]) (rest := []) rfl rfl (Nat.le_of_ble_eq_true rfl) (m_X1_checkWords E hc) (g_out C Q)
  refine g_cS_n (n := 2) C q1906 q1907 q95 q1908 (by decide +kernel) (by decide) (by decide) dX1_answersAnew_14 (As := [vI x2, vI x3]) (rest := []) rfl rfl (Nat.le_of_ble_eq_true rfl) (m_X1_checkWords E hc) ?_
  refine g_iconst (v := 0) C dX1_answersAnew_17 (by decide) ?_
  refine g_istore (L' := [(6, vI (0 : Int32)), (5, vR v4), (0, vR x0), (1, vI x1), (2, vI x2), (3, vI x3), (4, vI x4)]) C dX1_answersAnew_18 (by decide) rfl ?_
  refine g_iconst (v := 0) C dX1_answersAnew_20 (by decide) ?_
  refine g_istore (L' := [(7, vI (0 : Int32)), (6, vI (0 : Int32)), (5, vR v4), (0, vR x0), (1, vI x1), (2, vI x2), (3, vI x3), (4, vI x4)]) C dX1_answersAnew_21 (by decide) rfl ?_
  refine g_sub [3, 4, 5, 6, 2, 1, 0] rfl ?_
  exact w_X1_answersAnew_b23 C E Q FU _ _ _ _ _ _ _ _ hd
theorem m_X1_answersAnew {Γ : GG} {HI : St → Heap → Prop} {l : Launch} (E : EH Γ HI l) {S : St} {a0 : Option Nat} {a1 : Int32} {a2 : Int32} {a3 : Int32} {a4 : Int32} {r : (Int32 ⊕ String)} {S1 : St} (h : n_X1_answersAnew S a0 a1 a2 a3 a4 = some (r, S1)) : MS Γ HI l yX1_answersAnew cX1_answersAnew 11 (some (Jvm.ClassFile.FieldType.int)) 36 S [vR a0, vI a1, vI a2, vI a3, vI a4] (resI r) S1 := by
  refine MS_of E.ntr E.hx (by decide +kernel) rfl (Nat.le_of_ble_eq_true rfl) fun K e1 e2 e3 e4 hnm C Q => ?_
  subst e1; subst e2; subst e3
  exact w_X1_answersAnew_b0m C E Q S a0 a1 a2 a3 a4 h

def n_X1_answer_2 (S : St) (x0 : Option Nat) (x1 : Int32) (x2 : Int32) (x3 : Int32) (x4 : Int32) : Option ((Int32 ⊕ String) × St) :=
  tbn (n_X1_checkPerson S x1) fun _ S1 =>
  tbn (n_X1_checkWords S1 x2 x3) fun _ S3 =>
  gd (grc S3 x0 0) <|
  bn (n_X1_answer S3 x0 x1 x2 x3 none) fun v6 S5 =>
  gd (grc S5 v6 8) <|
  bn (h_J2_size S5 v6) fun v8 S7 =>
  bn (n_X1_isIn S7 x4 (0 : Int32) (v8 - (1 : Int32))) fun v10 S9 =>
  tbn (n_X1_need S9 v10) fun _ S11 =>
  gd (grc S11 v6 8) <|
  bn (h_J2_get S11 v6 x4) fun v14 S13 =>
  gd (gcst S13 v14 16) <|
  gd (grc S13 v14 16) <|
  bn (n_J23_intValue S13 v14) fun v16 S15 =>
  rtI Sum.inl (Jvm.ClassFile.FieldType.int) v16 S15
theorem w_X1_answer_2_b0m {K : KT} {r : (Int32 ⊕ String)} {S1 : St} (C : GC K RX1 cX1_answer_2 6 10 []) (E : EH (kΓ K) (kHI K) (kl K)) (Q : GQ K (some (Jvm.ClassFile.FieldType.int)) (resI r) S1) : ∀ (S : St) (x0 : Option Nat) (x1 : Int32) (x2 : Int32) (x3 : Int32) (x4 : Int32), n_X1_answer_2 S x0 x1 x2 x3 x4 = some (r, S1) → G K 6 S 0 [(0, vR x0), (1, vI x1), (2, vI x2), (3, vI x3), (4, vI x4)] [] := by
  intro S x0 x1 x2 x3 x4 hd
  unfold n_X1_answer_2 at hd
  refine g_iload_n C dX1_answer_2_0 rfl 1 rfl ?_
  rcases tbn_some hd with ⟨X9, S1, hc, hz⟩ | ⟨_, S1, hc, hd⟩
  · cases hz; exact g_cS_x (n := 1) C q1413 q1414 q95 q1415 (by decide +kernel) (by decide) (by decide) dX1_answer_2_1 (As := [vI x1]) (rest := []) rfl rfl (Nat.le_of_ble_eq_true rfl) (m_X1_checkPerson E hc) (g_out C Q)
  refine g_cS_n (n := 1) C q1413 q1414 q95 q1415 (by decide +kernel) (by decide) (by decide) dX1_answer_2_1 (As := [vI x1]) (rest := []) rfl rfl (Nat.le_of_ble_eq_true rfl) (m_X1_checkPerson E hc) ?_
  refine g_iload_n C dX1_answer_2_4 rfl 2 rfl ?_
  refine g_iload_n C dX1_answer_2_5 rfl 3 rfl ?_
  rcases tbn_some hd with ⟨X9, S3, hc, hz⟩ | ⟨_, S3, hc, hd⟩
  · cases hz; exact g_cS_x (n := 2) C q1906 q1907 q95 q1908 (by decide +kernel) (by decide) (by decide) dX1_answer_2_6 (As := [vI x2, vI x3]) (rest := []) rfl rfl (Nat.le_of_ble_eq_true rfl) (m_X1_checkWords E hc) (g_out C Q)
  refine g_cS_n (n := 2) C q1906 q1907 q95 q1908 (by decide +kernel) (by decide) (by decide) dX1_answer_2_6 (As := [vI x2, vI x3]) (rest := []) rfl rfl (Nat.le_of_ble_eq_true rfl) (m_X1_checkWords E hc) ?_
  refine g_aload_n C dX1_answer_2_9 rfl 0 rfl ?_
  refine g_iload_n C dX1_answer_2_10 rfl 1 rfl ?_
  refine g_iload_n C dX1_answer_2_11 rfl 2 rfl ?_
  refine g_iload_n C dX1_answer_2_12 rfl 3 rfl ?_
  refine g_null C dX1_answer_2_13 ?_
  obtain ⟨hg, hd⟩ := gd_some hd
  obtain ⟨v6, S5, hc, hd⟩ := bn_some hd
  refine g_cV_v (n := 4) C (gk_X1).1 q1909 q1911 qs50 q95 q1912 (by decide +kernel) (by decide) (by decide) dX1_answer_2_14 (As := [vI x1, vI x2, vI x3, vR none]) (rest := []) rfl rfl (Nat.le_of_ble_eq_true rfl) hg (m_X1_answer E hc) ?_
  refine g_astore (L' := [(5, vR v6), (0, vR x0), (1, vI x1), (2, vI x2), (3, vI x3), (4, vI x4)]) C dX1_answer_2_17 (by decide) rfl ?_
  refine g_iload C dX1_answer_2_19 5 rfl ?_
  refine g_iconst (v := 0) C dX1_answer_2_21 (by decide) ?_
  refine g_aload C dX1_answer_2_22 0 rfl ?_
  obtain ⟨hg, hd⟩ := gd_some hd
  obtain ⟨v8, S7, hc, hd⟩ := bn_some hd
  refine g_cF_v (n := 0) C (gk_J2).1 q427 q432 q430 q98 q434 (List.mem_of_getElem? (i := 1) rfl) (by decide +kernel) (by decide) (by decide) dX1_answer_2_24 (As := []) (rest := [vI (0 : Int32), vI x4]) rfl rfl (Nat.le_of_ble_eq_true rfl) hg (mh_J2_size E hc) ?_
  refine g_iconst (v := 1) C dX1_answer_2_29 (by decide) ?_
  refine g_isub C dX1_answer_2_30 ?_
  obtain ⟨v10, S9, hc, hd⟩ := bn_some hd
  refine g_cS_v (n := 3) C q1130 q1131 q95 q1132 (by decide +kernel) (by decide) (by decide) dX1_answer_2_31 (As := [vI x4, vI (0 : Int32), vI (v8 - (1 : Int32))]) (rest := []) rfl rfl (Nat.le_of_ble_eq_true rfl) (m_X1_isIn E hc) ?_
  rcases tbn_some hd with ⟨X9, S11, hc, hz⟩ | ⟨_, S11, hc, hd⟩
  · cases hz; exact g_cS_x (n := 1) C q1133 q1134 q95 q1135 (by decide +kernel) (by decide) (by decide) dX1_answer_2_34 (As := [vI v10]) (rest := []) rfl rfl (Nat.le_of_ble_eq_true rfl) (m_X1_need E hc) (g_out C Q)
  refine g_cS_n (n := 1) C q1133 q1134 q95 q1135 (by decide +kernel) (by decide) (by decide) dX1_answer_2_34 (As := [vI v10]) (rest := []) rfl rfl (Nat.le_of_ble_eq_true rfl) (m_X1_need E hc) ?_
  refine g_aload C dX1_answer_2_37 0 rfl ?_
  refine g_iload C dX1_answer_2_39 5 rfl ?_
  obtain ⟨hg, hd⟩ := gd_some hd
  obtain ⟨v14, S13, hc, hd⟩ := bn_some hd
  refine g_cF_v (n := 1) C (gk_J2).1 q441 q446 q444 q98 q448 (List.mem_of_getElem? (i := 2) rfl) (by decide +kernel) (by decide) (by decide) dX1_answer_2_41 (As := [vI x4]) (rest := []) rfl rfl (Nat.le_of_ble_eq_true rfl) hg (mh_J2_get E hc) ?_
  refine g_cast C (gk_J23).1 q1919 dX1_answer_2_46 hd (fun hd => ?_)
  obtain ⟨hg, hd⟩ := gd_some hd
  obtain ⟨v16, S15, hc, hd⟩ := bn_some hd
  refine g_cV_v (n := 0) C (gk_J23).1 q1920 q1625 q1626 q122 q1627 (by decide +kernel) (by decide) (by decide) dX1_answer_2_49 (As := []) (rest := []) rfl rfl (Nat.le_of_ble_eq_true rfl) hg (m_J23_intValue E.lo hc) ?_
  exact g_iretT C Q hd dX1_answer_2_52
theorem m_X1_answer_2 {Γ : GG} {HI : St → Heap → Prop} {l : Launch} (E : EH Γ HI l) {S : St} {a0 : Option Nat} {a1 : Int32} {a2 : Int32} {a3 : Int32} {a4 : Int32} {r : (Int32 ⊕ String)} {S1 : St} (h : n_X1_answer_2 S a0 a1 a2 a3 a4 = some (r, S1)) : MS Γ HI l yX1_answer_2 cX1_answer_2 6 (some (Jvm.ClassFile.FieldType.int)) 10 S [vR a0, vI a1, vI a2, vI a3, vI a4] (resI r) S1 := by
  refine MS_of E.ntr E.hx (by decide +kernel) rfl (Nat.le_of_ble_eq_true rfl) fun K e1 e2 e3 e4 hnm C Q => ?_
  subst e1; subst e2; subst e3
  exact w_X1_answer_2_b0m C E Q S a0 a1 a2 a3 a4 h

def n_X1_closest_b258 (k83 : St → Int32 → Int32 → Option Nat → Int32 → Int32 → Int32 → Option ((Int32 ⊕ String) × St)) (k101 : St → Int32 → Int32 → Option Nat → Int32 → Int32 → Int32 → Int32 → Option ((Int32 ⊕ String) × St)) (S : St) (x3 : Int32) (x4 : Int32) (x6 : Option Nat) (x7 : Int32) (x8 : Int32) (x9 : Int32) (x10 : Int32) : Option ((Int32 ⊕ String) × St) :=
  k101 S x3 x4 x6 x7 x8 x9 (x10 + 1)
def n_X1_closest_b249 (k83 : St → Int32 → Int32 → Option Nat → Int32 → Int32 → Int32 → Option ((Int32 ⊕ String) × St)) (k101 : St → Int32 → Int32 → Option Nat → Int32 → Int32 → Int32 → Int32 → Option ((Int32 ⊕ String) × St)) (S : St) (x3 : Int32) (x4 : Int32) (x6 : Option Nat) (x9 : Int32) (x10 : Int32) (y0 : Int32) : Option ((Int32 ⊕ String) × St) :=
  n_X1_closest_b258 k83 k101 S x3 x4 x6 y0 (x10 - x9) x9 x10
def n_X1_closest_b225 (k83 : St → Int32 → Int32 → Option Nat → Int32 → Int32 → Int32 → Option ((Int32 ⊕ String) × St)) (k101 : St → Int32 → Int32 → Option Nat → Int32 → Int32 → Int32 → Int32 → Option ((Int32 ⊕ String) × St)) (S : St) (x3 : Int32) (x4 : Int32) (x6 : Option Nat) (x9 : Int32) (x10 : Int32) (x11 : Int32) : Option ((Int32 ⊕ String) × St) :=
  if x11 = 0 then
    n_X1_closest_b249 k83 k101 S x3 x4 x6 x9 x10 (((100 : Int32) * x10) + x9)
  else
    n_X1_closest_b249 k83 k101 S x3 x4 x6 x9 x10 (((100 : Int32) * x9) + x10)
def n_X1_closest_b213 (k83 : St → Int32 → Int32 → Option Nat → Int32 → Int32 → Int32 → Option ((Int32 ⊕ String) × St)) (k101 : St → Int32 → Int32 → Option Nat → Int32 → Int32 → Int32 → Int32 → Option ((Int32 ⊕ String) × St)) (S : St) (x3 : Int32) (x4 : Int32) (x6 : Option Nat) (x7 : Int32) (x8 : Int32) (x9 : Int32) (x10 : Int32) (x11 : Int32) (y0 : Int32) : Option ((Int32 ⊕ String) × St) :=
  if x11 = 0 then
    if y0 = 0 then
      n_X1_closest_b258 k83 k101 S x3 x4 x6 x7 x8 x9 x10
    else
      n_X1_closest_b225 k83 k101 S x3 x4 x6 x9 x10 x11
  else
    n_X1_closest_b225 k83 k101 S x3 x4 x6 x9 x10 x11
def n_X1_closest_b212 (k83 : St → Int32 → Int32 → Option Nat → Int32 → Int32 → Int32 → Option ((Int32 ⊕ String) × St)) (k101 : St → Int32 → Int32 → Option Nat → Int32 → Int32 → Int32 → Int32 → Option ((Int32 ⊕ String) × St)) (S : St) (x3 : Int32) (x4 : Int32) (x6 : Option Nat) (x7 : Int32) (x8 : Int32) (x9 : Int32) (x10 : Int32) (x11 : Int32) : Option ((Int32 ⊕ String) × St) :=
  n_X1_closest_b213 k83 k101 S x3 x4 x6 x7 x8 x9 x10 x11 (0 : Int32)
def n_X1_closest_b167 (k83 : St → Int32 → Int32 → Option Nat → Int32 → Int32 → Int32 → Option ((Int32 ⊕ String) × St)) (k101 : St → Int32 → Int32 → Option Nat → Int32 → Int32 → Int32 → Int32 → Option ((Int32 ⊕ String) × St)) (S : St) (x3 : Int32) (x4 : Int32) (x6 : Option Nat) (x7 : Int32) (x8 : Int32) (x9 : Int32) (x10 : Int32) (y0 : Int32) : Option ((Int32 ⊕ String) × St) :=
  gd (grc S x6 8) <|
  bn (h_J2_get S x6 x9) fun v2 S1 =>
  gd (gcst S1 v2 16) <|
  gd (grc S1 v2 16) <|
  bn (n_J23_intValue S1 v2) fun v4 S3 =>
  if v4 = x4 then
    gd (grc S3 x6 8) <|
    bn (h_J2_get S3 x6 x10) fun v6 S5 =>
    gd (gcst S5 v6 16) <|
    gd (grc S5 v6 16) <|
    bn (n_J23_intValue S5 v6) fun v8 S7 =>
    if v8 = x3 then
      n_X1_closest_b213 k83 k101 S7 x3 x4 x6 x7 x8 x9 x10 y0 (1 : Int32)
    else
      n_X1_closest_b212 k83 k101 S7 x3 x4 x6 x7 x8 x9 x10 y0
  else
    n_X1_closest_b212 k83 k101 S3 x3 x4 x6 x7 x8 x9 x10 y0
def n_X1_closest_b166 (k83 : St → Int32 → Int32 → Option Nat → Int32 → Int32 → Int32 → Option ((Int32 ⊕ String) × St)) (k101 : St → Int32 → Int32 → Option Nat → Int32 → Int32 → Int32 → Int32 → Option ((Int32 ⊕ String) × St)) (S : St) (x3 : Int32) (x4 : Int32) (x6 : Option Nat) (x7 : Int32) (x8 : Int32) (x9 : Int32) (x10 : Int32) : Option ((Int32 ⊕ String) × St) :=
  n_X1_closest_b167 k83 k101 S x3 x4 x6 x7 x8 x9 x10 (0 : Int32)
def n_X1_closest_b264 (k83 : St → Int32 → Int32 → Option Nat → Int32 → Int32 → Int32 → Option ((Int32 ⊕ String) × St)) (S : St) (x3 : Int32) (x4 : Int32) (x6 : Option Nat) (x7 : Int32) (x8 : Int32) (x9 : Int32) : Option ((Int32 ⊕ String) × St) :=
  k83 S x3 x4 x6 x7 x8 (x9 + 1)
def n_X1_closest_b101 (k83 : St → Int32 → Int32 → Option Nat → Int32 → Int32 → Int32 → Option ((Int32 ⊕ String) × St)) : Nat → St → Int32 → Int32 → Option Nat → Int32 → Int32 → Int32 → Int32 → Option ((Int32 ⊕ String) × St)
  | 0 => fun _ _ _ _ _ _ _ _ => none
  | n + 1 => fun S x3 x4 x6 x7 x8 x9 x10 =>
    gd (grc S x6 8) <|
    bn (h_J2_size S x6) fun v2 S1 =>
    if v2 ≤ x10 then
      n_X1_closest_b264 k83 S1 x3 x4 x6 x7 x8 x9
    else
      if x8 ≤ (x10 - x9) then
        n_X1_closest_b264 k83 S1 x3 x4 x6 x7 x8 x9
      else
        gd (grc S1 x6 8) <|
        bn (h_J2_get S1 x6 x9) fun v4 S3 =>
        gd (gcst S3 v4 16) <|
        gd (grc S3 v4 16) <|
        bn (n_J23_intValue S3 v4) fun v6 S5 =>
        if v6 = x3 then
          gd (grc S5 x6 8) <|
          bn (h_J2_get S5 x6 x10) fun v8 S7 =>
          gd (gcst S7 v8 16) <|
          gd (grc S7 v8 16) <|
          bn (n_J23_intValue S7 v8) fun v10 S9 =>
          if v10 = x4 then
            n_X1_closest_b167 k83 (n_X1_closest_b101 k83 n) S9 x3 x4 x6 x7 x8 x9 x10 (1 : Int32)
          else
            n_X1_closest_b166 k83 (n_X1_closest_b101 k83 n) S9 x3 x4 x6 x7 x8 x9 x10
        else
          n_X1_closest_b166 k83 (n_X1_closest_b101 k83 n) S5 x3 x4 x6 x7 x8 x9 x10
def n_X1_closest_b83 : Nat → St → Int32 → Int32 → Option Nat → Int32 → Int32 → Int32 → Option ((Int32 ⊕ String) × St)
  | 0 => fun _ _ _ _ _ _ _ => none
  | n + 1 => fun S x3 x4 x6 x7 x8 x9 =>
    gd (grc S x6 8) <|
    bn (h_J2_size S x6) fun v2 S1 =>
    if v2 ≤ x9 then
      rtI Sum.inl (Jvm.ClassFile.FieldType.int) x7 S1
    else
      n_X1_closest_b101 (n_X1_closest_b83 n) FU S1 x3 x4 x6 x7 x8 x9 (x9 + (1 : Int32))
def n_X1_closest_b71 (S : St) (x3 : Int32) (x4 : Int32) (y0 : Option Nat) : Option ((Int32 ⊕ String) × St) :=
  n_X1_closest_b83 FU S x3 x4 y0 (-1 : Int32) (20 : Int32) (0 : Int32)
def n_X1_closest_b40 (S : St) (x0 : Option Nat) (x2 : Int32) (x3 : Int32) (x4 : Int32) (y0 : Int32) : Option ((Int32 ⊕ String) × St) :=
  tbn (n_X1_check S y0) fun _ S1 =>
  (gR S1 x0 0 2).bind fun v3 =>
  (aR S1 v3 5 x2).bind fun v4 =>
  if v4 = none then
    nwB S1 (cO 8 [vI 0, vR none, vI 0]) 3 fun q8 S9 =>
    gd (q8).isSome <|
    bn (h_J2_init S9 q8) fun _ S10 =>
    n_X1_closest_b71 S10 x3 x4 q8
  else
    (gR S1 x0 0 2).bind fun v5 =>
    (aR S1 v5 5 x2).bind fun v6 =>
    (gR S1 v6 5 4).bind fun v7 =>
    n_X1_closest_b71 S1 x3 x4 v7
def n_X1_closest_b39 (S : St) (x0 : Option Nat) (x2 : Int32) (x3 : Int32) (x4 : Int32) : Option ((Int32 ⊕ String) × St) :=
  n_X1_closest_b40 S x0 x2 x3 x4 (0 : Int32)
def n_X1_closest (S : St) (x0 : Option Nat) (x1 : Int32) (x2 : Int32) (x3 : Int32) (x4 : Int32) : Option ((Int32 ⊕ String) × St) :=
  tbn (n_X1_checkPerson S x1) fun _ S1 =>
  gd (grc S1 x0 0) <|
  tbn (n_X1_fileAt S1 x0 x2) fun v4 S3 =>
  gd (grc S3 v4 1) <|
  bn (n_X2_mayBeRead S3 v4 x1) fun v6 S5 =>
  tbn (n_X1_need S5 v6) fun _ S7 =>
  bn (n_X1_isWord S7 x3) fun v10 S9 =>
  if v10 = 0 then
    n_X1_closest_b39 S9 x0 x2 x3 x4
  else
    bn (n_X1_isWord S9 x4) fun v12 S11 =>
    if v12 = 0 then
      n_X1_closest_b39 S11 x0 x2 x3 x4
    else
      n_X1_closest_b40 S11 x0 x2 x3 x4 (1 : Int32)
theorem w_X1_closest_b258 {K : KT} {r : (Int32 ⊕ String)} {S1 : St} (C : GC K RX1 cX1_closest 13 10 []) (E : EH (kΓ K) (kHI K) (kl K)) (Q : GQ K (some (Jvm.ClassFile.FieldType.int)) (resI r) S1) {k83 : St → Int32 → Int32 → Option Nat → Int32 → Int32 → Int32 → Option ((Int32 ⊕ String) × St)} (h83 : ∀ (S : St) (x3 : Int32) (x4 : Int32) (x6 : Option Nat) (x7 : Int32) (x8 : Int32) (x9 : Int32), k83 S x3 x4 x6 x7 x8 x9 = some (r, S1) → G K 13 S 83 [(3, vI x3), (4, vI x4), (6, vR x6), (7, vI x7), (8, vI x8), (9, vI x9)] []) {k101 : St → Int32 → Int32 → Option Nat → Int32 → Int32 → Int32 → Int32 → Option ((Int32 ⊕ String) × St)} (h101 : ∀ (S : St) (x3 : Int32) (x4 : Int32) (x6 : Option Nat) (x7 : Int32) (x8 : Int32) (x9 : Int32) (x10 : Int32), k101 S x3 x4 x6 x7 x8 x9 x10 = some (r, S1) → G K 13 S 101 [(3, vI x3), (4, vI x4), (6, vR x6), (7, vI x7), (8, vI x8), (9, vI x9), (10, vI x10)] []) : ∀ (S : St) (x3 : Int32) (x4 : Int32) (x6 : Option Nat) (x7 : Int32) (x8 : Int32) (x9 : Int32) (x10 : Int32), n_X1_closest_b258 k83 k101 S x3 x4 x6 x7 x8 x9 x10 = some (r, S1) → G K 13 S 258 [(3, vI x3), (4, vI x4), (6, vR x6), (7, vI x7), (8, vI x8), (9, vI x9), (10, vI x10)] [] := by
  intro S x3 x4 x6 x7 x8 x9 x10 hd
  unfold n_X1_closest_b258 at hd
  refine g_iinc (v := x10 + 1) (L' := [(10, vI (x10 + 1)), (3, vI x3), (4, vI x4), (6, vR x6), (7, vI x7), (8, vI x8), (9, vI x9)]) C dX1_closest_258 6 rfl rfl (by decide) rfl ?_
  refine g_goto (tgt := 101) C dX1_closest_261 (by decide) ?_
  refine g_sub [1, 2, 3, 4, 5, 6, 0] rfl ?_
  exact h101 _ _ _ _ _ _ _ _ hd
theorem w_X1_closest_b249 {K : KT} {r : (Int32 ⊕ String)} {S1 : St} (C : GC K RX1 cX1_closest 13 10 []) (E : EH (kΓ K) (kHI K) (kl K)) (Q : GQ K (some (Jvm.ClassFile.FieldType.int)) (resI r) S1) {k83 : St → Int32 → Int32 → Option Nat → Int32 → Int32 → Int32 → Option ((Int32 ⊕ String) × St)} (h83 : ∀ (S : St) (x3 : Int32) (x4 : Int32) (x6 : Option Nat) (x7 : Int32) (x8 : Int32) (x9 : Int32), k83 S x3 x4 x6 x7 x8 x9 = some (r, S1) → G K 13 S 83 [(3, vI x3), (4, vI x4), (6, vR x6), (7, vI x7), (8, vI x8), (9, vI x9)] []) {k101 : St → Int32 → Int32 → Option Nat → Int32 → Int32 → Int32 → Int32 → Option ((Int32 ⊕ String) × St)} (h101 : ∀ (S : St) (x3 : Int32) (x4 : Int32) (x6 : Option Nat) (x7 : Int32) (x8 : Int32) (x9 : Int32) (x10 : Int32), k101 S x3 x4 x6 x7 x8 x9 x10 = some (r, S1) → G K 13 S 101 [(3, vI x3), (4, vI x4), (6, vR x6), (7, vI x7), (8, vI x8), (9, vI x9), (10, vI x10)] []) : ∀ (S : St) (x3 : Int32) (x4 : Int32) (x6 : Option Nat) (x9 : Int32) (x10 : Int32) (y0 : Int32), n_X1_closest_b249 k83 k101 S x3 x4 x6 x9 x10 y0 = some (r, S1) → G K 13 S 249 [(3, vI x3), (4, vI x4), (6, vR x6), (9, vI x9), (10, vI x10)] [vI y0] := by
  intro S x3 x4 x6 x9 x10 y0 hd
  unfold n_X1_closest_b249 at hd
  refine g_istore (L' := [(7, vI y0), (3, vI x3), (4, vI x4), (6, vR x6), (9, vI x9), (10, vI x10)]) C dX1_closest_249 (by decide) rfl ?_
  refine g_iload C dX1_closest_251 5 rfl ?_
  refine g_iload C dX1_closest_253 4 rfl ?_
  refine g_isub C dX1_closest_255 ?_
  refine g_istore (L' := [(8, vI (x10 - x9)), (7, vI y0), (3, vI x3), (4, vI x4), (6, vR x6), (9, vI x9), (10, vI x10)]) C dX1_closest_256 (by decide) rfl ?_
  refine g_sub [2, 3, 4, 1, 0, 5, 6] rfl ?_
  exact w_X1_closest_b258 C E Q h83 h101 _ _ _ _ _ _ _ _ hd
theorem w_X1_closest_b225 {K : KT} {r : (Int32 ⊕ String)} {S1 : St} (C : GC K RX1 cX1_closest 13 10 []) (E : EH (kΓ K) (kHI K) (kl K)) (Q : GQ K (some (Jvm.ClassFile.FieldType.int)) (resI r) S1) {k83 : St → Int32 → Int32 → Option Nat → Int32 → Int32 → Int32 → Option ((Int32 ⊕ String) × St)} (h83 : ∀ (S : St) (x3 : Int32) (x4 : Int32) (x6 : Option Nat) (x7 : Int32) (x8 : Int32) (x9 : Int32), k83 S x3 x4 x6 x7 x8 x9 = some (r, S1) → G K 13 S 83 [(3, vI x3), (4, vI x4), (6, vR x6), (7, vI x7), (8, vI x8), (9, vI x9)] []) {k101 : St → Int32 → Int32 → Option Nat → Int32 → Int32 → Int32 → Int32 → Option ((Int32 ⊕ String) × St)} (h101 : ∀ (S : St) (x3 : Int32) (x4 : Int32) (x6 : Option Nat) (x7 : Int32) (x8 : Int32) (x9 : Int32) (x10 : Int32), k101 S x3 x4 x6 x7 x8 x9 x10 = some (r, S1) → G K 13 S 101 [(3, vI x3), (4, vI x4), (6, vR x6), (7, vI x7), (8, vI x8), (9, vI x9), (10, vI x10)] []) : ∀ (S : St) (x3 : Int32) (x4 : Int32) (x6 : Option Nat) (x9 : Int32) (x10 : Int32) (x11 : Int32), n_X1_closest_b225 k83 k101 S x3 x4 x6 x9 x10 x11 = some (r, S1) → G K 13 S 225 [(3, vI x3), (4, vI x4), (6, vR x6), (9, vI x9), (10, vI x10), (11, vI x11)] [] := by
  intro S x3 x4 x6 x9 x10 x11 hd
  unfold n_X1_closest_b225 at hd
  refine g_iload C dX1_closest_225 5 rfl ?_
  refine g_if_eq (tgt := 241) C dX1_closest_227 (by decide) hd (fun hd => ?_) (fun hd => ?_)
  · refine g_bipush (v := 100) C dX1_closest_241 (by decide) ?_
    refine g_iload C dX1_closest_243 4 rfl ?_
    refine g_imul C dX1_closest_245 ?_
    refine g_iload C dX1_closest_246 3 rfl ?_
    refine g_iadd C dX1_closest_248 ?_
    refine g_sub [0, 1, 2, 3, 4] rfl ?_
    exact w_X1_closest_b249 C E Q h83 h101 _ _ _ _ _ _ _ hd
  · refine g_bipush (v := 100) C dX1_closest_230 (by decide) ?_
    refine g_iload C dX1_closest_232 3 rfl ?_
    refine g_imul C dX1_closest_234 ?_
    refine g_iload C dX1_closest_235 4 rfl ?_
    refine g_iadd C dX1_closest_237 ?_
    refine g_goto (tgt := 249) C dX1_closest_238 (by decide) ?_
    refine g_sub [0, 1, 2, 3, 4] rfl ?_
    exact w_X1_closest_b249 C E Q h83 h101 _ _ _ _ _ _ _ hd
theorem w_X1_closest_b213 {K : KT} {r : (Int32 ⊕ String)} {S1 : St} (C : GC K RX1 cX1_closest 13 10 []) (E : EH (kΓ K) (kHI K) (kl K)) (Q : GQ K (some (Jvm.ClassFile.FieldType.int)) (resI r) S1) {k83 : St → Int32 → Int32 → Option Nat → Int32 → Int32 → Int32 → Option ((Int32 ⊕ String) × St)} (h83 : ∀ (S : St) (x3 : Int32) (x4 : Int32) (x6 : Option Nat) (x7 : Int32) (x8 : Int32) (x9 : Int32), k83 S x3 x4 x6 x7 x8 x9 = some (r, S1) → G K 13 S 83 [(3, vI x3), (4, vI x4), (6, vR x6), (7, vI x7), (8, vI x8), (9, vI x9)] []) {k101 : St → Int32 → Int32 → Option Nat → Int32 → Int32 → Int32 → Int32 → Option ((Int32 ⊕ String) × St)} (h101 : ∀ (S : St) (x3 : Int32) (x4 : Int32) (x6 : Option Nat) (x7 : Int32) (x8 : Int32) (x9 : Int32) (x10 : Int32), k101 S x3 x4 x6 x7 x8 x9 x10 = some (r, S1) → G K 13 S 101 [(3, vI x3), (4, vI x4), (6, vR x6), (7, vI x7), (8, vI x8), (9, vI x9), (10, vI x10)] []) : ∀ (S : St) (x3 : Int32) (x4 : Int32) (x6 : Option Nat) (x7 : Int32) (x8 : Int32) (x9 : Int32) (x10 : Int32) (x11 : Int32) (y0 : Int32), n_X1_closest_b213 k83 k101 S x3 x4 x6 x7 x8 x9 x10 x11 y0 = some (r, S1) → G K 13 S 213 [(3, vI x3), (4, vI x4), (6, vR x6), (7, vI x7), (8, vI x8), (9, vI x9), (10, vI x10), (11, vI x11)] [vI y0] := by
  intro S x3 x4 x6 x7 x8 x9 x10 x11 y0 hd
  unfold n_X1_closest_b213 at hd
  refine g_istore (L' := [(12, vI y0), (3, vI x3), (4, vI x4), (6, vR x6), (7, vI x7), (8, vI x8), (9, vI x9), (10, vI x10), (11, vI x11)]) C dX1_closest_213 (by decide) rfl ?_
  refine g_iload C dX1_closest_215 8 rfl ?_
  refine g_if_ne (tgt := 225) C dX1_closest_217 (by decide) hd (fun hd => ?_) (fun hd => ?_)
  · refine g_sub [1, 2, 3, 6, 7, 8] rfl ?_
    exact w_X1_closest_b225 C E Q h83 h101 _ _ _ _ _ _ _ hd
  · refine g_iload C dX1_closest_220 0 rfl ?_
    refine g_if_eq (tgt := 258) C dX1_closest_222 (by decide) hd (fun hd => ?_) (fun hd => ?_)
    · refine g_sub [1, 2, 3, 4, 5, 6, 7] rfl ?_
      exact w_X1_closest_b258 C E Q h83 h101 _ _ _ _ _ _ _ _ hd
    · refine g_sub [1, 2, 3, 6, 7, 8] rfl ?_
      exact w_X1_closest_b225 C E Q h83 h101 _ _ _ _ _ _ _ hd
theorem w_X1_closest_b212 {K : KT} {r : (Int32 ⊕ String)} {S1 : St} (C : GC K RX1 cX1_closest 13 10 []) (E : EH (kΓ K) (kHI K) (kl K)) (Q : GQ K (some (Jvm.ClassFile.FieldType.int)) (resI r) S1) {k83 : St → Int32 → Int32 → Option Nat → Int32 → Int32 → Int32 → Option ((Int32 ⊕ String) × St)} (h83 : ∀ (S : St) (x3 : Int32) (x4 : Int32) (x6 : Option Nat) (x7 : Int32) (x8 : Int32) (x9 : Int32), k83 S x3 x4 x6 x7 x8 x9 = some (r, S1) → G K 13 S 83 [(3, vI x3), (4, vI x4), (6, vR x6), (7, vI x7), (8, vI x8), (9, vI x9)] []) {k101 : St → Int32 → Int32 → Option Nat → Int32 → Int32 → Int32 → Int32 → Option ((Int32 ⊕ String) × St)} (h101 : ∀ (S : St) (x3 : Int32) (x4 : Int32) (x6 : Option Nat) (x7 : Int32) (x8 : Int32) (x9 : Int32) (x10 : Int32), k101 S x3 x4 x6 x7 x8 x9 x10 = some (r, S1) → G K 13 S 101 [(3, vI x3), (4, vI x4), (6, vR x6), (7, vI x7), (8, vI x8), (9, vI x9), (10, vI x10)] []) : ∀ (S : St) (x3 : Int32) (x4 : Int32) (x6 : Option Nat) (x7 : Int32) (x8 : Int32) (x9 : Int32) (x10 : Int32) (x11 : Int32), n_X1_closest_b212 k83 k101 S x3 x4 x6 x7 x8 x9 x10 x11 = some (r, S1) → G K 13 S 212 [(3, vI x3), (4, vI x4), (6, vR x6), (7, vI x7), (8, vI x8), (9, vI x9), (10, vI x10), (11, vI x11)] [] := by
  intro S x3 x4 x6 x7 x8 x9 x10 x11 hd
  unfold n_X1_closest_b212 at hd
  refine g_iconst (v := 0) C dX1_closest_212 (by decide) ?_
  refine g_sub [0, 1, 2, 3, 4, 5, 6, 7] rfl ?_
  exact w_X1_closest_b213 C E Q h83 h101 _ _ _ _ _ _ _ _ _ _ hd
theorem w_X1_closest_b167 {K : KT} {r : (Int32 ⊕ String)} {S1 : St} (C : GC K RX1 cX1_closest 13 10 []) (E : EH (kΓ K) (kHI K) (kl K)) (Q : GQ K (some (Jvm.ClassFile.FieldType.int)) (resI r) S1) {k83 : St → Int32 → Int32 → Option Nat → Int32 → Int32 → Int32 → Option ((Int32 ⊕ String) × St)} (h83 : ∀ (S : St) (x3 : Int32) (x4 : Int32) (x6 : Option Nat) (x7 : Int32) (x8 : Int32) (x9 : Int32), k83 S x3 x4 x6 x7 x8 x9 = some (r, S1) → G K 13 S 83 [(3, vI x3), (4, vI x4), (6, vR x6), (7, vI x7), (8, vI x8), (9, vI x9)] []) {k101 : St → Int32 → Int32 → Option Nat → Int32 → Int32 → Int32 → Int32 → Option ((Int32 ⊕ String) × St)} (h101 : ∀ (S : St) (x3 : Int32) (x4 : Int32) (x6 : Option Nat) (x7 : Int32) (x8 : Int32) (x9 : Int32) (x10 : Int32), k101 S x3 x4 x6 x7 x8 x9 x10 = some (r, S1) → G K 13 S 101 [(3, vI x3), (4, vI x4), (6, vR x6), (7, vI x7), (8, vI x8), (9, vI x9), (10, vI x10)] []) : ∀ (S : St) (x3 : Int32) (x4 : Int32) (x6 : Option Nat) (x7 : Int32) (x8 : Int32) (x9 : Int32) (x10 : Int32) (y0 : Int32), n_X1_closest_b167 k83 k101 S x3 x4 x6 x7 x8 x9 x10 y0 = some (r, S1) → G K 13 S 167 [(3, vI x3), (4, vI x4), (6, vR x6), (7, vI x7), (8, vI x8), (9, vI x9), (10, vI x10)] [vI y0] := by
  intro S x3 x4 x6 x7 x8 x9 x10 y0 hd
  unfold n_X1_closest_b167 at hd
  refine g_istore (L' := [(11, vI y0), (3, vI x3), (4, vI x4), (6, vR x6), (7, vI x7), (8, vI x8), (9, vI x9), (10, vI x10)]) C dX1_closest_167 (by decide) rfl ?_
  refine g_aload C dX1_closest_169 3 rfl ?_
  refine g_iload C dX1_closest_171 6 rfl ?_
  obtain ⟨hg, hd⟩ := gd_some hd
  obtain ⟨v2, S1, hc, hd⟩ := bn_some hd
  refine g_cF_v (n := 1) C (gk_J2).1 q441 q446 q444 q98 q448 (List.mem_of_getElem? (i := 2) rfl) (by decide +kernel) (by decide) (by decide) dX1_closest_173 (As := [vI x9]) (rest := []) rfl rfl (Nat.le_of_ble_eq_true rfl) hg (mh_J2_get E hc) ?_
  refine g_cast C (gk_J23).1 q1919 dX1_closest_178 hd (fun hd => ?_)
  obtain ⟨hg, hd⟩ := gd_some hd
  obtain ⟨v4, S3, hc, hd⟩ := bn_some hd
  refine g_cV_v (n := 0) C (gk_J23).1 q1920 q1625 q1626 q122 q1627 (by decide +kernel) (by decide) (by decide) dX1_closest_181 (As := []) (rest := []) rfl rfl (Nat.le_of_ble_eq_true rfl) hg (m_J23_intValue E.lo hc) ?_
  refine g_iload C dX1_closest_184 2 rfl ?_
  refine g_icmp_ne (tgt := 212) C dX1_closest_186 (by decide) hd (fun hd => ?_) (fun hd => ?_)
  · refine g_sub [1, 2, 3, 4, 5, 6, 7, 0] rfl ?_
    exact w_X1_closest_b212 C E Q h83 h101 _ _ _ _ _ _ _ _ _ hd
  · refine g_aload C dX1_closest_189 3 rfl ?_
    refine g_iload C dX1_closest_191 7 rfl ?_
    obtain ⟨hg, hd⟩ := gd_some hd
    obtain ⟨v6, S5, hc, hd⟩ := bn_some hd
    refine g_cF_v (n := 1) C (gk_J2).1 q441 q446 q444 q98 q448 (List.mem_of_getElem? (i := 2) rfl) (by decide +kernel) (by decide) (by decide) dX1_closest_193 (As := [vI x10]) (rest := []) rfl rfl (Nat.le_of_ble_eq_true rfl) hg (mh_J2_get E hc) ?_
    refine g_cast C (gk_J23).1 q1919 dX1_closest_198 hd (fun hd => ?_)
    obtain ⟨hg, hd⟩ := gd_some hd
    obtain ⟨v8, S7, hc, hd⟩ := bn_some hd
    refine g_cV_v (n := 0) C (gk_J23).1 q1920 q1625 q1626 q122 q1627 (by decide +kernel) (by decide) (by decide) dX1_closest_201 (As := []) (rest := []) rfl rfl (Nat.le_of_ble_eq_true rfl) hg (m_J23_intValue E.lo hc) ?_
    refine g_iload_n C dX1_closest_204 rfl 1 rfl ?_
    refine g_icmp_ne (tgt := 212) C dX1_closest_205 (by decide) hd (fun hd => ?_) (fun hd => ?_)
    · refine g_sub [1, 2, 3, 4, 5, 6, 7, 0] rfl ?_
      exact w_X1_closest_b212 C E Q h83 h101 _ _ _ _ _ _ _ _ _ hd
    · refine g_iconst (v := 1) C dX1_closest_208 (by decide) ?_
      refine g_goto (tgt := 213) C dX1_closest_209 (by decide) ?_
      refine g_sub [1, 2, 3, 4, 5, 6, 7, 0] rfl ?_
      exact w_X1_closest_b213 C E Q h83 h101 _ _ _ _ _ _ _ _ _ _ hd
theorem w_X1_closest_b166 {K : KT} {r : (Int32 ⊕ String)} {S1 : St} (C : GC K RX1 cX1_closest 13 10 []) (E : EH (kΓ K) (kHI K) (kl K)) (Q : GQ K (some (Jvm.ClassFile.FieldType.int)) (resI r) S1) {k83 : St → Int32 → Int32 → Option Nat → Int32 → Int32 → Int32 → Option ((Int32 ⊕ String) × St)} (h83 : ∀ (S : St) (x3 : Int32) (x4 : Int32) (x6 : Option Nat) (x7 : Int32) (x8 : Int32) (x9 : Int32), k83 S x3 x4 x6 x7 x8 x9 = some (r, S1) → G K 13 S 83 [(3, vI x3), (4, vI x4), (6, vR x6), (7, vI x7), (8, vI x8), (9, vI x9)] []) {k101 : St → Int32 → Int32 → Option Nat → Int32 → Int32 → Int32 → Int32 → Option ((Int32 ⊕ String) × St)} (h101 : ∀ (S : St) (x3 : Int32) (x4 : Int32) (x6 : Option Nat) (x7 : Int32) (x8 : Int32) (x9 : Int32) (x10 : Int32), k101 S x3 x4 x6 x7 x8 x9 x10 = some (r, S1) → G K 13 S 101 [(3, vI x3), (4, vI x4), (6, vR x6), (7, vI x7), (8, vI x8), (9, vI x9), (10, vI x10)] []) : ∀ (S : St) (x3 : Int32) (x4 : Int32) (x6 : Option Nat) (x7 : Int32) (x8 : Int32) (x9 : Int32) (x10 : Int32), n_X1_closest_b166 k83 k101 S x3 x4 x6 x7 x8 x9 x10 = some (r, S1) → G K 13 S 166 [(3, vI x3), (4, vI x4), (6, vR x6), (7, vI x7), (8, vI x8), (9, vI x9), (10, vI x10)] [] := by
  intro S x3 x4 x6 x7 x8 x9 x10 hd
  unfold n_X1_closest_b166 at hd
  refine g_iconst (v := 0) C dX1_closest_166 (by decide) ?_
  refine g_sub [0, 1, 2, 3, 4, 5, 6] rfl ?_
  exact w_X1_closest_b167 C E Q h83 h101 _ _ _ _ _ _ _ _ _ hd
theorem w_X1_closest_b264 {K : KT} {r : (Int32 ⊕ String)} {S1 : St} (C : GC K RX1 cX1_closest 13 10 []) (E : EH (kΓ K) (kHI K) (kl K)) (Q : GQ K (some (Jvm.ClassFile.FieldType.int)) (resI r) S1) {k83 : St → Int32 → Int32 → Option Nat → Int32 → Int32 → Int32 → Option ((Int32 ⊕ String) × St)} (h83 : ∀ (S : St) (x3 : Int32) (x4 : Int32) (x6 : Option Nat) (x7 : Int32) (x8 : Int32) (x9 : Int32), k83 S x3 x4 x6 x7 x8 x9 = some (r, S1) → G K 13 S 83 [(3, vI x3), (4, vI x4), (6, vR x6), (7, vI x7), (8, vI x8), (9, vI x9)] []) : ∀ (S : St) (x3 : Int32) (x4 : Int32) (x6 : Option Nat) (x7 : Int32) (x8 : Int32) (x9 : Int32), n_X1_closest_b264 k83 S x3 x4 x6 x7 x8 x9 = some (r, S1) → G K 13 S 264 [(3, vI x3), (4, vI x4), (6, vR x6), (7, vI x7), (8, vI x8), (9, vI x9)] [] := by
  intro S x3 x4 x6 x7 x8 x9 hd
  unfold n_X1_closest_b264 at hd
  refine g_iinc (v := x9 + 1) (L' := [(9, vI (x9 + 1)), (3, vI x3), (4, vI x4), (6, vR x6), (7, vI x7), (8, vI x8)]) C dX1_closest_264 5 rfl rfl (by decide) rfl ?_
  refine g_goto (tgt := 83) C dX1_closest_267 (by decide) ?_
  refine g_sub [1, 2, 3, 4, 5, 0] rfl ?_
  exact h83 _ _ _ _ _ _ _ hd
theorem w_X1_closest_b101 {K : KT} {r : (Int32 ⊕ String)} {S1 : St} (C : GC K RX1 cX1_closest 13 10 []) (E : EH (kΓ K) (kHI K) (kl K)) (Q : GQ K (some (Jvm.ClassFile.FieldType.int)) (resI r) S1) {k83 : St → Int32 → Int32 → Option Nat → Int32 → Int32 → Int32 → Option ((Int32 ⊕ String) × St)} (h83 : ∀ (S : St) (x3 : Int32) (x4 : Int32) (x6 : Option Nat) (x7 : Int32) (x8 : Int32) (x9 : Int32), k83 S x3 x4 x6 x7 x8 x9 = some (r, S1) → G K 13 S 83 [(3, vI x3), (4, vI x4), (6, vR x6), (7, vI x7), (8, vI x8), (9, vI x9)] []) : ∀ (n : Nat) (S : St) (x3 : Int32) (x4 : Int32) (x6 : Option Nat) (x7 : Int32) (x8 : Int32) (x9 : Int32) (x10 : Int32), n_X1_closest_b101 k83 n S x3 x4 x6 x7 x8 x9 x10 = some (r, S1) → G K 13 S 101 [(3, vI x3), (4, vI x4), (6, vR x6), (7, vI x7), (8, vI x8), (9, vI x9), (10, vI x10)] [] := by
  intro n
  induction n with
  | zero => intro S x3 x4 x6 x7 x8 x9 x10 hd; cases hd
  | succ n ih =>
    intro S x3 x4 x6 x7 x8 x9 x10 hd
    unfold n_X1_closest_b101 at hd
    refine g_iload C dX1_closest_101 6 rfl ?_
    refine g_aload C dX1_closest_103 2 rfl ?_
    obtain ⟨hg, hd⟩ := gd_some hd
    obtain ⟨v2, S1, hc, hd⟩ := bn_some hd
    refine g_cF_v (n := 0) C (gk_J2).1 q427 q432 q430 q98 q434 (List.mem_of_getElem? (i := 1) rfl) (by decide +kernel) (by decide) (by decide) dX1_closest_105 (As := []) (rest := [vI x10]) rfl rfl (Nat.le_of_ble_eq_true rfl) hg (mh_J2_size E hc) ?_
    refine g_icmp_ge (tgt := 264) C dX1_closest_110 (by decide) hd (fun hd => ?_) (fun hd => ?_)
    · refine g_sub [0, 1, 2, 3, 4, 5] rfl ?_
      exact w_X1_closest_b264 C E Q h83 _ _ _ _ _ _ _ hd
    · refine g_iload C dX1_closest_113 6 rfl ?_
      refine g_iload C dX1_closest_115 5 rfl ?_
      refine g_isub C dX1_closest_117 ?_
      refine g_iload C dX1_closest_118 4 rfl ?_
      refine g_icmp_ge (tgt := 264) C dX1_closest_120 (by decide) hd (fun hd => ?_) (fun hd => ?_)
      · refine g_sub [0, 1, 2, 3, 4, 5] rfl ?_
        exact w_X1_closest_b264 C E Q h83 _ _ _ _ _ _ _ hd
      · refine g_aload C dX1_closest_123 2 rfl ?_
        refine g_iload C dX1_closest_125 5 rfl ?_
        obtain ⟨hg, hd⟩ := gd_some hd
        obtain ⟨v4, S3, hc, hd⟩ := bn_some hd
        refine g_cF_v (n := 1) C (gk_J2).1 q441 q446 q444 q98 q448 (List.mem_of_getElem? (i := 2) rfl) (by decide +kernel) (by decide) (by decide) dX1_closest_127 (As := [vI x9]) (rest := []) rfl rfl (Nat.le_of_ble_eq_true rfl) hg (mh_J2_get E hc) ?_
        refine g_cast C (gk_J23).1 q1919 dX1_closest_132 hd (fun hd => ?_)
        obtain ⟨hg, hd⟩ := gd_some hd
        obtain ⟨v6, S5, hc, hd⟩ := bn_some hd
        refine g_cV_v (n := 0) C (gk_J23).1 q1920 q1625 q1626 q122 q1627 (by decide +kernel) (by decide) (by decide) dX1_closest_135 (As := []) (rest := []) rfl rfl (Nat.le_of_ble_eq_true rfl) hg (m_J23_intValue E.lo hc) ?_
        refine g_iload_n C dX1_closest_138 rfl 0 rfl ?_
        refine g_icmp_ne (tgt := 166) C dX1_closest_139 (by decide) hd (fun hd => ?_) (fun hd => ?_)
        · refine g_sub [0, 1, 2, 3, 4, 5, 6] rfl ?_
          exact w_X1_closest_b166 C E Q h83 ih _ _ _ _ _ _ _ _ hd
        · refine g_aload C dX1_closest_142 2 rfl ?_
          refine g_iload C dX1_closest_144 6 rfl ?_
          obtain ⟨hg, hd⟩ := gd_some hd
          obtain ⟨v8, S7, hc, hd⟩ := bn_some hd
          refine g_cF_v (n := 1) C (gk_J2).1 q441 q446 q444 q98 q448 (List.mem_of_getElem? (i := 2) rfl) (by decide +kernel) (by decide) (by decide) dX1_closest_146 (As := [vI x10]) (rest := []) rfl rfl (Nat.le_of_ble_eq_true rfl) hg (mh_J2_get E hc) ?_
          refine g_cast C (gk_J23).1 q1919 dX1_closest_151 hd (fun hd => ?_)
          obtain ⟨hg, hd⟩ := gd_some hd
          obtain ⟨v10, S9, hc, hd⟩ := bn_some hd
          refine g_cV_v (n := 0) C (gk_J23).1 q1920 q1625 q1626 q122 q1627 (by decide +kernel) (by decide) (by decide) dX1_closest_154 (As := []) (rest := []) rfl rfl (Nat.le_of_ble_eq_true rfl) hg (m_J23_intValue E.lo hc) ?_
          refine g_iload C dX1_closest_157 1 rfl ?_
          refine g_icmp_ne (tgt := 166) C dX1_closest_159 (by decide) hd (fun hd => ?_) (fun hd => ?_)
          · refine g_sub [0, 1, 2, 3, 4, 5, 6] rfl ?_
            exact w_X1_closest_b166 C E Q h83 ih _ _ _ _ _ _ _ _ hd
          · refine g_iconst (v := 1) C dX1_closest_162 (by decide) ?_
            refine g_goto (tgt := 167) C dX1_closest_163 (by decide) ?_
            refine g_sub [0, 1, 2, 3, 4, 5, 6] rfl ?_
            exact w_X1_closest_b167 C E Q h83 ih _ _ _ _ _ _ _ _ _ hd
theorem w_X1_closest_b83 {K : KT} {r : (Int32 ⊕ String)} {S1 : St} (C : GC K RX1 cX1_closest 13 10 []) (E : EH (kΓ K) (kHI K) (kl K)) (Q : GQ K (some (Jvm.ClassFile.FieldType.int)) (resI r) S1) : ∀ (n : Nat) (S : St) (x3 : Int32) (x4 : Int32) (x6 : Option Nat) (x7 : Int32) (x8 : Int32) (x9 : Int32), n_X1_closest_b83 n S x3 x4 x6 x7 x8 x9 = some (r, S1) → G K 13 S 83 [(3, vI x3), (4, vI x4), (6, vR x6), (7, vI x7), (8, vI x8), (9, vI x9)] [] := by
  intro n
  induction n with
  | zero => intro S x3 x4 x6 x7 x8 x9 hd; cases hd
  | succ n ih =>
    intro S x3 x4 x6 x7 x8 x9 hd
    unfold n_X1_closest_b83 at hd
    refine g_iload C dX1_closest_83 5 rfl ?_
    refine g_aload C dX1_closest_85 2 rfl ?_
    obtain ⟨hg, hd⟩ := gd_some hd
    obtain ⟨v2, S1, hc, hd⟩ := bn_some hd
    refine g_cF_v (n := 0) C (gk_J2).1 q427 q432 q430 q98 q434 (List.mem_of_getElem? (i := 1) rfl) (by decide +kernel) (by decide) (by decide) dX1_closest_87 (As := []) (rest := [vI x9]) rfl rfl (Nat.le_of_ble_eq_true rfl) hg (mh_J2_size E hc) ?_
    refine g_icmp_ge (tgt := 270) C dX1_closest_92 (by decide) hd (fun hd => ?_) (fun hd => ?_)
    · refine g_iload C dX1_closest_270 3 rfl ?_
      exact g_iretT C Q hd dX1_closest_272
    · refine g_iload C dX1_closest_95 5 rfl ?_
      refine g_iconst (v := 1) C dX1_closest_97 (by decide) ?_
      refine g_iadd C dX1_closest_98 ?_
      refine g_istore (L' := [(10, vI (x9 + (1 : Int32))), (3, vI x3), (4, vI x4), (6, vR x6), (7, vI x7), (8, vI x8), (9, vI x9)]) C dX1_closest_99 (by decide) rfl ?_
      refine g_sub [1, 2, 3, 4, 5, 6, 0] rfl ?_
      exact w_X1_closest_b101 C E Q ih FU _ _ _ _ _ _ _ _ hd
theorem w_X1_closest_b71 {K : KT} {r : (Int32 ⊕ String)} {S1 : St} (C : GC K RX1 cX1_closest 13 10 []) (E : EH (kΓ K) (kHI K) (kl K)) (Q : GQ K (some (Jvm.ClassFile.FieldType.int)) (resI r) S1) : ∀ (S : St) (x3 : Int32) (x4 : Int32) (y0 : Option Nat), n_X1_closest_b71 S x3 x4 y0 = some (r, S1) → G K 13 S 71 [(3, vI x3), (4, vI x4)] [vR y0] := by
  intro S x3 x4 y0 hd
  unfold n_X1_closest_b71 at hd
  refine g_astore (L' := [(6, vR y0), (3, vI x3), (4, vI x4)]) C dX1_closest_71 (by decide) rfl ?_
  refine g_iconst (v := (-1)) C dX1_closest_73 (by decide) ?_
  refine g_istore (L' := [(7, vI (-1 : Int32)), (6, vR y0), (3, vI x3), (4, vI x4)]) C dX1_closest_74 (by decide) rfl ?_
  refine g_bipush (v := 20) C dX1_closest_76 (by decide) ?_
  refine g_istore (L' := [(8, vI (20 : Int32)), (7, vI (-1 : Int32)), (6, vR y0), (3, vI x3), (4, vI x4)]) C dX1_closest_78 (by decide) rfl ?_
  refine g_iconst (v := 0) C dX1_closest_80 (by decide) ?_
  refine g_istore (L' := [(9, vI (0 : Int32)), (8, vI (20 : Int32)), (7, vI (-1 : Int32)), (6, vR y0), (3, vI x3), (4, vI x4)]) C dX1_closest_81 (by decide) rfl ?_
  refine g_sub [4, 5, 3, 2, 1, 0] rfl ?_
  exact w_X1_closest_b83 C E Q FU _ _ _ _ _ _ _ hd
theorem w_X1_closest_b40 {K : KT} {r : (Int32 ⊕ String)} {S1 : St} (C : GC K RX1 cX1_closest 13 10 []) (E : EH (kΓ K) (kHI K) (kl K)) (Q : GQ K (some (Jvm.ClassFile.FieldType.int)) (resI r) S1) : ∀ (S : St) (x0 : Option Nat) (x2 : Int32) (x3 : Int32) (x4 : Int32) (y0 : Int32), n_X1_closest_b40 S x0 x2 x3 x4 y0 = some (r, S1) → G K 13 S 40 [(0, vR x0), (2, vI x2), (3, vI x3), (4, vI x4)] [vI y0] := by
  intro S x0 x2 x3 x4 y0 hd
  unfold n_X1_closest_b40 at hd
  rcases tbn_some hd with ⟨X9, S1, hc, hz⟩ | ⟨_, S1, hc, hd⟩
  · cases hz; exact g_cS_x (n := 1) C q1150 q1151 q95 q1152 (by decide +kernel) (by decide) (by decide) dX1_closest_40 (As := [vI y0]) (rest := []) rfl rfl (Nat.le_of_ble_eq_true rfl) (m_X1_check E hc) (g_out C Q)
  refine g_cS_n (n := 1) C q1150 q1151 q95 q1152 (by decide +kernel) (by decide) (by decide) dX1_closest_40 (As := [vI y0]) (rest := []) rfl rfl (Nat.le_of_ble_eq_true rfl) (m_X1_check E hc) ?_
  refine g_aload_n C dX1_closest_43 rfl 0 rfl ?_
  obtain ⟨v3, hv3, hd⟩ := Option.bind_eq_some_iff.mp hd
  refine g_fld C gk_X1 (k := 2) (by decide) q387 (Or.inl rfl) dX1_closest_44 (gR_v hv3) ?_
  refine g_iload_n C dX1_closest_47 rfl 1 rfl ?_
  obtain ⟨v4, hv4, hd⟩ := Option.bind_eq_some_iff.mp hd
  refine g_aald C 5 (by decide) dX1_closest_48 hv4 ?_
  refine g_ifnonnull (tgt := 62) C dX1_closest_49 (by decide) hd (fun hd => ?_) (fun hd => ?_)
  · refine g_aload_n C dX1_closest_62 rfl 0 rfl ?_
    obtain ⟨v5, hv5, hd⟩ := Option.bind_eq_some_iff.mp hd
    refine g_fld C gk_X1 (k := 2) (by decide) q387 (Or.inl rfl) dX1_closest_63 (gR_v hv5) ?_
    refine g_iload_n C dX1_closest_66 rfl 1 rfl ?_
    obtain ⟨v6, hv6, hd⟩ := Option.bind_eq_some_iff.mp hd
    refine g_aald C 5 (by decide) dX1_closest_67 hv6 ?_
    obtain ⟨v7, hv7, hd⟩ := Option.bind_eq_some_iff.mp hd
    refine g_fldN C gk_X7 (k := 4) (by decide) q1690 rfl dX1_closest_68 (gR_v hv7) ?_
    refine g_sub [2, 3] rfl ?_
    exact w_X1_closest_b71 C E Q _ _ _ _ hd
  · refine g_new C gk_J2 (fun j hj => gdf_J2 j hj) q151 q152 q98 dX1_closest_52 hd (fun q8 S9 hd => ?_)
    refine g_dup C dX1_closest_55 rfl ?_
    obtain ⟨hg, hd⟩ := gd_some hd
    obtain ⟨_, S10, hc, hd⟩ := bn_some hd
    refine g_cI_n (n := 0) C q153 q154 q98 q155 rfl (by decide +kernel) (by decide) (by decide) dX1_closest_56 (As := []) (rest := [vR q8]) rfl rfl (Nat.le_of_ble_eq_true rfl) hg (mh_J2_init E hc) ?_
    refine g_goto (tgt := 71) C dX1_closest_59 (by decide) ?_
    refine g_sub [2, 3] rfl ?_
    exact w_X1_closest_b71 C E Q _ _ _ _ hd
theorem w_X1_closest_b39 {K : KT} {r : (Int32 ⊕ String)} {S1 : St} (C : GC K RX1 cX1_closest 13 10 []) (E : EH (kΓ K) (kHI K) (kl K)) (Q : GQ K (some (Jvm.ClassFile.FieldType.int)) (resI r) S1) : ∀ (S : St) (x0 : Option Nat) (x2 : Int32) (x3 : Int32) (x4 : Int32), n_X1_closest_b39 S x0 x2 x3 x4 = some (r, S1) → G K 13 S 39 [(0, vR x0), (2, vI x2), (3, vI x3), (4, vI x4)] [] := by
  intro S x0 x2 x3 x4 hd
  unfold n_X1_closest_b39 at hd
  refine g_iconst (v := 0) C dX1_closest_39 (by decide) ?_
  refine g_sub [0, 1, 2, 3] rfl ?_
  exact w_X1_closest_b40 C E Q _ _ _ _ _ _ hd
theorem w_X1_closest_b0m {K : KT} {r : (Int32 ⊕ String)} {S1 : St} (C : GC K RX1 cX1_closest 13 10 []) (E : EH (kΓ K) (kHI K) (kl K)) (Q : GQ K (some (Jvm.ClassFile.FieldType.int)) (resI r) S1) : ∀ (S : St) (x0 : Option Nat) (x1 : Int32) (x2 : Int32) (x3 : Int32) (x4 : Int32), n_X1_closest S x0 x1 x2 x3 x4 = some (r, S1) → G K 13 S 0 [(0, vR x0), (1, vI x1), (2, vI x2), (3, vI x3), (4, vI x4)] [] := by
  intro S x0 x1 x2 x3 x4 hd
  unfold n_X1_closest at hd
  refine g_iload_n C dX1_closest_0 rfl 1 rfl ?_
  rcases tbn_some hd with ⟨X9, S1, hc, hz⟩ | ⟨_, S1, hc, hd⟩
  · cases hz; exact g_cS_x (n := 1) C q1413 q1414 q95 q1415 (by decide +kernel) (by decide) (by decide) dX1_closest_1 (As := [vI x1]) (rest := []) rfl rfl (Nat.le_of_ble_eq_true rfl) (m_X1_checkPerson E hc) (g_out C Q)
  refine g_cS_n (n := 1) C q1413 q1414 q95 q1415 (by decide +kernel) (by decide) (by decide) dX1_closest_1 (As := [vI x1]) (rest := []) rfl rfl (Nat.le_of_ble_eq_true rfl) (m_X1_checkPerson E hc) ?_
  refine g_aload_n C dX1_closest_4 rfl 0 rfl ?_
  refine g_iload_n C dX1_closest_5 rfl 2 rfl ?_
  obtain ⟨hg, hd⟩ := gd_some hd
  rcases tbn_some hd with ⟨X9, S3, hc, hz⟩ | ⟨v4, S3, hc, hd⟩
  · cases hz; exact g_cV_x (n := 1) C (gk_X1).1 q1221 q1223 qs19 q95 q1224 (by decide +kernel) (by decide) (by decide) dX1_closest_6 (As := [vI x2]) (rest := []) rfl rfl (Nat.le_of_ble_eq_true rfl) hg (m_X1_fileAt E hc) (g_out C Q)
  refine g_cV_v (n := 1) C (gk_X1).1 q1221 q1223 qs19 q95 q1224 (by decide +kernel) (by decide) (by decide) dX1_closest_6 (As := [vI x2]) (rest := []) rfl rfl (Nat.le_of_ble_eq_true rfl) hg (m_X1_fileAt E hc) ?_
  refine g_astore (L' := [(5, vR v4), (0, vR x0), (1, vI x1), (2, vI x2), (3, vI x3), (4, vI x4)]) C dX1_closest_9 (by decide) rfl ?_
  refine g_aload C dX1_closest_11 0 rfl ?_
  refine g_iload_n C dX1_closest_13 rfl 2 rfl ?_
  obtain ⟨hg, hd⟩ := gd_some hd
  obtain ⟨v6, S5, hc, hd⟩ := bn_some hd
  refine g_cV_v (n := 1) C (gk_X2).1 q1416 q1417 q1418 q102 q1419 (by decide +kernel) (by decide) (by decide) dX1_closest_14 (As := [vI x1]) (rest := []) rfl rfl (Nat.le_of_ble_eq_true rfl) hg (m_X2_mayBeRead E hc) ?_
  rcases tbn_some hd with ⟨X9, S7, hc, hz⟩ | ⟨_, S7, hc, hd⟩
  · cases hz; exact g_cS_x (n := 1) C q1133 q1134 q95 q1135 (by decide +kernel) (by decide) (by decide) dX1_closest_17 (As := [vI v6]) (rest := []) rfl rfl (Nat.le_of_ble_eq_true rfl) (m_X1_need E hc) (g_out C Q)
  refine g_cS_n (n := 1) C q1133 q1134 q95 q1135 (by decide +kernel) (by decide) (by decide) dX1_closest_17 (As := [vI v6]) (rest := []) rfl rfl (Nat.le_of_ble_eq_true rfl) (m_X1_need E hc) ?_
  refine g_iload_n C dX1_closest_20 rfl 4 rfl ?_
  obtain ⟨v10, S9, hc, hd⟩ := bn_some hd
  refine g_cS_v (n := 1) C q1225 q1226 q95 q1227 (by decide +kernel) (by decide) (by decide) dX1_closest_21 (As := [vI x3]) (rest := []) rfl rfl (Nat.le_of_ble_eq_true rfl) (m_X1_isWord E hc) ?_
  refine g_if_eq (tgt := 39) C dX1_closest_24 (by decide) hd (fun hd => ?_) (fun hd => ?_)
  · refine g_sub [1, 3, 4, 5] rfl ?_
    exact w_X1_closest_b39 C E Q _ _ _ _ _ hd
  · refine g_iload C dX1_closest_27 5 rfl ?_
    obtain ⟨v12, S11, hc, hd⟩ := bn_some hd
    refine g_cS_v (n := 1) C q1225 q1226 q95 q1227 (by decide +kernel) (by decide) (by decide) dX1_closest_29 (As := [vI x4]) (rest := []) rfl rfl (Nat.le_of_ble_eq_true rfl) (m_X1_isWord E hc) ?_
    refine g_if_eq (tgt := 39) C dX1_closest_32 (by decide) hd (fun hd => ?_) (fun hd => ?_)
    · refine g_sub [1, 3, 4, 5] rfl ?_
      exact w_X1_closest_b39 C E Q _ _ _ _ _ hd
    · refine g_iconst (v := 1) C dX1_closest_35 (by decide) ?_
      refine g_goto (tgt := 40) C dX1_closest_36 (by decide) ?_
      refine g_sub [1, 3, 4, 5] rfl ?_
      exact w_X1_closest_b40 C E Q _ _ _ _ _ _ hd
theorem m_X1_closest {Γ : GG} {HI : St → Heap → Prop} {l : Launch} (E : EH Γ HI l) {S : St} {a0 : Option Nat} {a1 : Int32} {a2 : Int32} {a3 : Int32} {a4 : Int32} {r : (Int32 ⊕ String)} {S1 : St} (h : n_X1_closest S a0 a1 a2 a3 a4 = some (r, S1)) : MS Γ HI l yX1_closest cX1_closest 13 (some (Jvm.ClassFile.FieldType.int)) 10 S [vR a0, vI a1, vI a2, vI a3, vI a4] (resI r) S1 := by
  refine MS_of E.ntr E.hx (by decide +kernel) rfl (Nat.le_of_ble_eq_true rfl) fun K e1 e2 e3 e4 hnm C Q => ?_
  subst e1; subst e2; subst e3
  exact w_X1_closest_b0m C E Q S a0 a1 a2 a3 a4 h

