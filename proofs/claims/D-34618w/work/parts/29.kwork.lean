/-! the keeper: work -/
def n_X9_size (S : St) (x0 : Option Nat) : Option (Int32 × St) :=
  (gR S x0 7 0).bind fun v1 =>
  gd (grc S v1 8) <|
  bn (h_J2_size S v1) fun v3 S2 =>
  (gI S2 x0 7 1).bind fun v4 =>
  rtI id (Jvm.ClassFile.FieldType.int) (v3 + v4) S2
theorem w_X9_size_b0m {K : KT} {r : Int32} {S1 : St} (C : GC K RX9 cX9_size 1 3 []) (E : EH (kΓ K) (kHI K) (kl K)) (Q : GQ K (some (Jvm.ClassFile.FieldType.int)) (.inl (some (vI r))) S1) : ∀ (S : St) (x0 : Option Nat), n_X9_size S x0 = some (r, S1) → G K 1 S 0 [(0, vR x0)] [] := by
  intro S x0 hd
  unfold n_X9_size at hd
  refine g_aload_n C dX9_size_0 rfl 0 rfl ?_
  obtain ⟨v1, hv1, hd⟩ := Option.bind_eq_some_iff.mp hd
  refine g_fld C gk_X9 (k := 0) (by decide) q1822 (Or.inl rfl) dX9_size_1 (gR_v hv1) ?_
  obtain ⟨hg, hd⟩ := gd_some hd
  obtain ⟨v3, S2, hc, hd⟩ := bn_some hd
  refine g_cF_v (n := 0) C (gk_J2).1 q1866 q432 q430 q98 q434 (List.mem_of_getElem? (i := 1) rfl) (by decide +kernel) (by decide) (by decide) dX9_size_4 (As := []) (rest := []) rfl rfl (Nat.le_of_ble_eq_true rfl) hg (mh_J2_size E hc) ?_
  refine g_aload_n C dX9_size_9 rfl 0 rfl ?_
  obtain ⟨v4, hv4, hd⟩ := Option.bind_eq_some_iff.mp hd
  refine g_fld C gk_X9 (k := 1) (by decide) q1824 (Or.inl rfl) dX9_size_10 (gI_v hv4) ?_
  refine g_iadd C dX9_size_13 ?_
  exact g_iret C Q hd dX9_size_14
theorem m_X9_size {Γ : GG} {HI : St → Heap → Prop} {l : Launch} (E : EH Γ HI l) {S : St} {a0 : Option Nat} {r : Int32} {S1 : St} (h : n_X9_size S a0 = some (r, S1)) : MS Γ HI l yX9_size cX9_size 1 (some (Jvm.ClassFile.FieldType.int)) 3 S [vR a0] (.inl (some (vI r))) S1 := by
  refine MS_of E.ntr E.hx (by decide +kernel) rfl (Nat.le_of_ble_eq_true rfl) fun K e1 e2 e3 e4 hnm C Q => ?_
  subst e1; subst e2; subst e3
  exact w_X9_size_b0m C E Q S a0 h

def n_X1_join_b99 (k4 : St → Option Nat → Int32 → Int32 → Option (Unit × St)) (S : St) (x0 : Option Nat) (x2 : Int32) (y0 : Int32) : Option (Unit × St) :=
  k4 S x0 y0 (x2 + 1)
def n_X1_join_b152 : Nat → St → Option Nat → Option Nat → Option (Unit × St)
  | 0 => fun _ _ _ => none
  | n + 1 => fun S x2 x4 =>
    gd (grc S x4 12) <|
    bn (h_J26_hasNext S x4) fun v2 S1 =>
    if v2 = 0 then
      some ((), S1)
    else
      gd (grc S1 x4 12) <|
      bn (h_J26_next S1 x4) fun v4 S3 =>
      gd (gcst S3 v4 5) <|
      (pR S3 v4 5 5 x2).bind fun S5 =>
      (gR S5 x2 7 0).bind fun v6 =>
      gd (grc S5 v6 8) <|
      bn (h_J2_add S5 v6 v4) fun v8 S7 =>
      (n_X1_join_b152 n) S7 x2 x4
def n_X1_join_b4 : Nat → St → Option Nat → Int32 → Int32 → Option (Unit × St)
  | 0 => fun _ _ _ _ => none
  | n + 1 => fun S x0 x1 x2 =>
    (gR S x0 0 4).bind fun v1 =>
    gd (grc S v1 8) <|
    bn (h_J2_size S v1) fun v3 S2 =>
    if v3 ≤ (x2 + (1 : Int32)) then
      (gR S2 x0 0 4).bind fun v4 =>
      gd (grc S2 v4 8) <|
      bn (h_J2_get S2 v4 x1) fun v6 S5 =>
      gd (gcst S5 v6 7) <|
      (gR S5 x0 0 4).bind fun v7 =>
      gd (grc S5 v7 8) <|
      bn (h_J2_remove S5 v7 (x1 + (1 : Int32))) fun v9 S8 =>
      gd (gcst S8 v9 7) <|
      (pI .int S8 v6 7 1 (0 : Int32)).bind fun S10 =>
      (gR S10 v9 7 0).bind fun v11 =>
      gd (grc S10 v11 8) <|
      bn (h_J2_iterator S10 v11) fun v13 S12 =>
      n_X1_join_b152 FU S12 v6 v13
    else
      (gR S2 x0 0 4).bind fun v14 =>
      gd (grc S2 v14 8) <|
      bn (h_J2_get S2 v14 x2) fun v16 S15 =>
      gd (gcst S15 v16 7) <|
      gd (grc S15 v16 7) <|
      bn (n_X9_size S15 v16) fun v18 S17 =>
      (gR S17 x0 0 4).bind fun v19 =>
      gd (grc S17 v19 8) <|
      bn (h_J2_get S17 v19 (x2 + (1 : Int32))) fun v21 S20 =>
      gd (gcst S20 v21 7) <|
      gd (grc S20 v21 7) <|
      bn (n_X9_size S20 v21) fun v23 S22 =>
      (gR S22 x0 0 4).bind fun v24 =>
      gd (grc S22 v24 8) <|
      bn (h_J2_get S22 v24 x1) fun v26 S25 =>
      gd (gcst S25 v26 7) <|
      gd (grc S25 v26 7) <|
      bn (n_X9_size S25 v26) fun v28 S27 =>
      (gR S27 x0 0 4).bind fun v29 =>
      gd (grc S27 v29 8) <|
      bn (h_J2_get S27 v29 (x1 + (1 : Int32))) fun v31 S30 =>
      gd (gcst S30 v31 7) <|
      gd (grc S30 v31 7) <|
      bn (n_X9_size S30 v31) fun v33 S32 =>
      if (v28 + v33) ≤ (v18 + v23) then
        n_X1_join_b99 (n_X1_join_b4 n) S32 x0 x2 x1
      else
        n_X1_join_b99 (n_X1_join_b4 n) S32 x0 x2 x2
def n_X1_join (S : St) (x0 : Option Nat) : Option (Unit × St) :=
  n_X1_join_b4 FU S x0 (0 : Int32) (1 : Int32)
theorem w_X1_join_b99 {K : KT} {r : Unit} {S1 : St} (C : GC K RX1 cX1_join 6 9 []) (E : EH (kΓ K) (kHI K) (kl K)) (Q : GQ K none (.inl none) S1) {k4 : St → Option Nat → Int32 → Int32 → Option (Unit × St)} (h4 : ∀ (S : St) (x0 : Option Nat) (x1 : Int32) (x2 : Int32), k4 S x0 x1 x2 = some (r, S1) → G K 6 S 4 [(0, vR x0), (1, vI x1), (2, vI x2)] []) : ∀ (S : St) (x0 : Option Nat) (x2 : Int32) (y0 : Int32), n_X1_join_b99 k4 S x0 x2 y0 = some (r, S1) → G K 6 S 99 [(0, vR x0), (2, vI x2)] [vI y0] := by
  intro S x0 x2 y0 hd
  unfold n_X1_join_b99 at hd
  refine g_istore_n (L' := [(1, vI y0), (0, vR x0), (2, vI x2)]) C dX1_join_99 rfl (by decide) rfl ?_
  refine g_iinc (v := x2 + 1) (L' := [(2, vI (x2 + 1)), (1, vI y0), (0, vR x0)]) C dX1_join_100 2 rfl rfl (by decide) rfl ?_
  refine g_goto (tgt := 4) C dX1_join_103 (by decide) ?_
  refine g_sub [2, 1, 0] rfl ?_
  exact h4 _ _ _ _ hd
theorem w_X1_join_b152 {K : KT} {r : Unit} {S1 : St} (C : GC K RX1 cX1_join 6 9 []) (E : EH (kΓ K) (kHI K) (kl K)) (Q : GQ K none (.inl none) S1) : ∀ (n : Nat) (S : St) (x2 : Option Nat) (x4 : Option Nat), n_X1_join_b152 n S x2 x4 = some (r, S1) → G K 6 S 152 [(2, vR x2), (4, vR x4)] [] := by
  intro n
  induction n with
  | zero => intro S x2 x4 hd; cases hd
  | succ n ih =>
    intro S x2 x4 hd
    unfold n_X1_join_b152 at hd
    refine g_aload C dX1_join_152 1 rfl ?_
    obtain ⟨hg, hd⟩ := gd_some hd
    obtain ⟨v2, S1, hc, hd⟩ := bn_some hd
    refine g_cF_v (n := 0) C (gk_J26).1 q925 q942 q940 q125 q944 (List.mem_of_getElem? (i := 9) rfl) (by decide +kernel) (by decide) (by decide) dX1_join_154 (As := []) (rest := []) rfl rfl (Nat.le_of_ble_eq_true rfl) hg (mh_J26_hasNext E hc) ?_
    refine g_if_eq (tgt := 195) C dX1_join_159 (by decide) hd (fun hd => ?_) (fun hd => ?_)
    · exact g_vret C Q hd dX1_join_195
    · refine g_aload C dX1_join_162 1 rfl ?_
      obtain ⟨hg, hd⟩ := gd_some hd
      obtain ⟨v4, S3, hc, hd⟩ := bn_some hd
      refine g_cF_v (n := 0) C (gk_J26).1 q955 q1034 q1032 q125 q1036 (List.mem_of_getElem? (i := 10) rfl) (by decide +kernel) (by decide) (by decide) dX1_join_164 (As := []) (rest := []) rfl rfl (Nat.le_of_ble_eq_true rfl) hg (mh_J26_next E hc) ?_
      refine g_cast C (gk_X7).1 q205 dX1_join_169 hd (fun hd => ?_)
      refine g_astore (L' := [(5, vR v4), (2, vR x2), (4, vR x4)]) C dX1_join_172 (by decide) rfl ?_
      refine g_aload C dX1_join_174 0 rfl ?_
      refine g_aload_n C dX1_join_176 rfl 1 rfl ?_
      obtain ⟨S5, hS5, hd⟩ := Option.bind_eq_some_iff.mp hd
      refine g_putN C gk_X7 (k := 5) (by decide) q1691 rfl rfl dX1_join_177 (fit_ref _ (Or.inl ⟨_, rfl⟩)).1 (fit_ref _ (Or.inl ⟨_, rfl⟩)).2 hS5 ?_
      refine g_aload_n C dX1_join_180 rfl 1 rfl ?_
      obtain ⟨v6, hv6, hd⟩ := Option.bind_eq_some_iff.mp hd
      refine g_fldN C gk_X9 (k := 0) (by decide) q1823 rfl dX1_join_181 (gR_v hv6) ?_
      refine g_aload C dX1_join_184 0 rfl ?_
      obtain ⟨hg, hd⟩ := gd_some hd
      obtain ⟨v8, S7, hc, hd⟩ := bn_some hd
      refine g_cF_v (n := 1) C (gk_J2).1 q274 q280 q278 q98 q282 (List.mem_of_getElem? (i := 0) rfl) (by decide +kernel) (by decide) (by decide) dX1_join_186 (As := [vR v4]) (rest := []) rfl rfl (Nat.le_of_ble_eq_true rfl) hg (mh_J2_add E hc) ?_
      refine g_pop C dX1_join_191 rfl ?_
      refine g_goto (tgt := 152) C dX1_join_192 (by decide) ?_
      refine g_sub [1, 2] rfl ?_
      exact ih _ _ _ hd
theorem w_X1_join_b4 {K : KT} {r : Unit} {S1 : St} (C : GC K RX1 cX1_join 6 9 []) (E : EH (kΓ K) (kHI K) (kl K)) (Q : GQ K none (.inl none) S1) : ∀ (n : Nat) (S : St) (x0 : Option Nat) (x1 : Int32) (x2 : Int32), n_X1_join_b4 n S x0 x1 x2 = some (r, S1) → G K 6 S 4 [(0, vR x0), (1, vI x1), (2, vI x2)] [] := by
  intro n
  induction n with
  | zero => intro S x0 x1 x2 hd; cases hd
  | succ n ih =>
    intro S x0 x1 x2 hd
    unfold n_X1_join_b4 at hd
    refine g_iload_n C dX1_join_4 rfl 2 rfl ?_
    refine g_iconst (v := 1) C dX1_join_5 (by decide) ?_
    refine g_iadd C dX1_join_6 ?_
    refine g_aload_n C dX1_join_7 rfl 0 rfl ?_
    obtain ⟨v1, hv1, hd⟩ := Option.bind_eq_some_iff.mp hd
    refine g_fld C gk_X1 (k := 4) (by decide) q389 (Or.inl rfl) dX1_join_8 (gR_v hv1) ?_
    obtain ⟨hg, hd⟩ := gd_some hd
    obtain ⟨v3, S2, hc, hd⟩ := bn_some hd
    refine g_cF_v (n := 0) C (gk_J2).1 q427 q432 q430 q98 q434 (List.mem_of_getElem? (i := 1) rfl) (by decide +kernel) (by decide) (by decide) dX1_join_11 (As := []) (rest := [vI (x2 + (1 : Int32))]) rfl rfl (Nat.le_of_ble_eq_true rfl) hg (mh_J2_size E hc) ?_
    refine g_icmp_ge (tgt := 106) C dX1_join_16 (by decide) hd (fun hd => ?_) (fun hd => ?_)
    · refine g_aload_n C dX1_join_106 rfl 0 rfl ?_
      obtain ⟨v4, hv4, hd⟩ := Option.bind_eq_some_iff.mp hd
      refine g_fld C gk_X1 (k := 4) (by decide) q389 (Or.inl rfl) dX1_join_107 (gR_v hv4) ?_
      refine g_iload_n C dX1_join_110 rfl 1 rfl ?_
      obtain ⟨hg, hd⟩ := gd_some hd
      obtain ⟨v6, S5, hc, hd⟩ := bn_some hd
      refine g_cF_v (n := 1) C (gk_J2).1 q441 q446 q444 q98 q448 (List.mem_of_getElem? (i := 2) rfl) (by decide +kernel) (by decide) (by decide) dX1_join_111 (As := [vI x1]) (rest := []) rfl rfl (Nat.le_of_ble_eq_true rfl) hg (mh_J2_get E hc) ?_
      refine g_cast C (gk_X9).1 q1096 dX1_join_116 hd (fun hd => ?_)
      refine g_astore_n (L' := [(2, vR v6), (0, vR x0), (1, vI x1)]) C dX1_join_119 rfl (by decide) rfl ?_
      refine g_aload_n C dX1_join_120 rfl 1 rfl ?_
      obtain ⟨v7, hv7, hd⟩ := Option.bind_eq_some_iff.mp hd
      refine g_fld C gk_X1 (k := 4) (by decide) q389 (Or.inl rfl) dX1_join_121 (gR_v hv7) ?_
      refine g_iload_n C dX1_join_124 rfl 2 rfl ?_
      refine g_iconst (v := 1) C dX1_join_125 (by decide) ?_
      refine g_iadd C dX1_join_126 ?_
      obtain ⟨hg, hd⟩ := gd_some hd
      obtain ⟨v9, S8, hc, hd⟩ := bn_some hd
      refine g_cF_v (n := 1) C (gk_J2).1 q1868 q1313 q1871 q98 q1314 (List.mem_of_getElem? (i := 7) rfl) (by decide +kernel) (by decide) (by decide) dX1_join_127 (As := [vI (x1 + (1 : Int32))]) (rest := []) rfl rfl (Nat.le_of_ble_eq_true rfl) hg (mh_J2_remove E hc) ?_
      refine g_cast C (gk_X9).1 q1096 dX1_join_132 hd (fun hd => ?_)
      refine g_astore_n (L' := [(3, vR v9), (2, vR v6), (0, vR x0), (1, vI x1)]) C dX1_join_135 rfl (by decide) rfl ?_
      refine g_aload_n C dX1_join_136 rfl 1 rfl ?_
      refine g_iconst (v := 0) C dX1_join_137 (by decide) ?_
      obtain ⟨S10, hS10, hd⟩ := Option.bind_eq_some_iff.mp hd
      refine g_putN C gk_X9 (k := 1) (by decide) q1825 rfl rfl dX1_join_138 (gfit_ok (pI_v hS10).1).1 (gfit_ok (pI_v hS10).1).2 (pI_v hS10).2 ?_
      refine g_aload_n C dX1_join_141 rfl 0 rfl ?_
      obtain ⟨v11, hv11, hd⟩ := Option.bind_eq_some_iff.mp hd
      refine g_fldN C gk_X9 (k := 0) (by decide) q1823 rfl dX1_join_142 (gR_v hv11) ?_
      obtain ⟨hg, hd⟩ := gd_some hd
      obtain ⟨v13, S12, hc, hd⟩ := bn_some hd
      refine g_cF_v (n := 0) C (gk_J2).1 q812 q817 q815 q98 q819 (List.mem_of_getElem? (i := 3) rfl) (by decide +kernel) (by decide) (by decide) dX1_join_145 (As := []) (rest := []) rfl rfl (Nat.le_of_ble_eq_true rfl) hg (mh_J2_iterator E hc) ?_
      refine g_astore (L' := [(4, vR v13), (3, vR v9), (2, vR v6), (0, vR x0), (1, vI x1)]) C dX1_join_150 (by decide) rfl ?_
      refine g_sub [2, 0] rfl ?_
      exact w_X1_join_b152 C E Q FU _ _ _ hd
    · refine g_aload_n C dX1_join_19 rfl 0 rfl ?_
      obtain ⟨v14, hv14, hd⟩ := Option.bind_eq_some_iff.mp hd
      refine g_fld C gk_X1 (k := 4) (by decide) q389 (Or.inl rfl) dX1_join_20 (gR_v hv14) ?_
      refine g_iload_n C dX1_join_23 rfl 2 rfl ?_
      obtain ⟨hg, hd⟩ := gd_some hd
      obtain ⟨v16, S15, hc, hd⟩ := bn_some hd
      refine g_cF_v (n := 1) C (gk_J2).1 q441 q446 q444 q98 q448 (List.mem_of_getElem? (i := 2) rfl) (by decide +kernel) (by decide) (by decide) dX1_join_24 (As := [vI x2]) (rest := []) rfl rfl (Nat.le_of_ble_eq_true rfl) hg (mh_J2_get E hc) ?_
      refine g_cast C (gk_X9).1 q1096 dX1_join_29 hd (fun hd => ?_)
      obtain ⟨hg, hd⟩ := gd_some hd
      obtain ⟨v18, S17, hc, hd⟩ := bn_some hd
      refine g_cV_v (n := 0) C (gk_X9).1 q1861 q1862 q1863 q141 q1864 (by decide +kernel) (by decide) (by decide) dX1_join_32 (As := []) (rest := []) rfl rfl (Nat.le_of_ble_eq_true rfl) hg (m_X9_size E hc) ?_
      refine g_aload_n C dX1_join_35 rfl 0 rfl ?_
      obtain ⟨v19, hv19, hd⟩ := Option.bind_eq_some_iff.mp hd
      refine g_fld C gk_X1 (k := 4) (by decide) q389 (Or.inl rfl) dX1_join_36 (gR_v hv19) ?_
      refine g_iload_n C dX1_join_39 rfl 2 rfl ?_
      refine g_iconst (v := 1) C dX1_join_40 (by decide) ?_
      refine g_iadd C dX1_join_41 ?_
      obtain ⟨hg, hd⟩ := gd_some hd
      obtain ⟨v21, S20, hc, hd⟩ := bn_some hd
      refine g_cF_v (n := 1) C (gk_J2).1 q441 q446 q444 q98 q448 (List.mem_of_getElem? (i := 2) rfl) (by decide +kernel) (by decide) (by decide) dX1_join_42 (As := [vI (x2 + (1 : Int32))]) (rest := [vI v18]) rfl rfl (Nat.le_of_ble_eq_true rfl) hg (mh_J2_get E hc) ?_
      refine g_cast C (gk_X9).1 q1096 dX1_join_47 hd (fun hd => ?_)
      obtain ⟨hg, hd⟩ := gd_some hd
      obtain ⟨v23, S22, hc, hd⟩ := bn_some hd
      refine g_cV_v (n := 0) C (gk_X9).1 q1861 q1862 q1863 q141 q1864 (by decide +kernel) (by decide) (by decide) dX1_join_50 (As := []) (rest := [vI v18]) rfl rfl (Nat.le_of_ble_eq_true rfl) hg (m_X9_size E hc) ?_
      refine g_iadd C dX1_join_53 ?_
      refine g_istore_n (L' := [(3, vI (v18 + v23)), (0, vR x0), (1, vI x1), (2, vI x2)]) C dX1_join_54 rfl (by decide) rfl ?_
      refine g_iload_n C dX1_join_55 rfl 0 rfl ?_
      refine g_aload_n C dX1_join_56 rfl 1 rfl ?_
      obtain ⟨v24, hv24, hd⟩ := Option.bind_eq_some_iff.mp hd
      refine g_fld C gk_X1 (k := 4) (by decide) q389 (Or.inl rfl) dX1_join_57 (gR_v hv24) ?_
      refine g_iload_n C dX1_join_60 rfl 2 rfl ?_
      obtain ⟨hg, hd⟩ := gd_some hd
      obtain ⟨v26, S25, hc, hd⟩ := bn_some hd
      refine g_cF_v (n := 1) C (gk_J2).1 q441 q446 q444 q98 q448 (List.mem_of_getElem? (i := 2) rfl) (by decide +kernel) (by decide) (by decide) dX1_join_61 (As := [vI x1]) (rest := [vI (v18 + v23)]) rfl rfl (Nat.le_of_ble_eq_true rfl) hg (mh_J2_get E hc) ?_
      refine g_cast C (gk_X9).1 q1096 dX1_join_66 hd (fun hd => ?_)
      obtain ⟨hg, hd⟩ := gd_some hd
      obtain ⟨v28, S27, hc, hd⟩ := bn_some hd
      refine g_cV_v (n := 0) C (gk_X9).1 q1861 q1862 q1863 q141 q1864 (by decide +kernel) (by decide) (by decide) dX1_join_69 (As := []) (rest := [vI (v18 + v23)]) rfl rfl (Nat.le_of_ble_eq_true rfl) hg (m_X9_size E hc) ?_
      refine g_aload_n C dX1_join_72 rfl 1 rfl ?_
      obtain ⟨v29, hv29, hd⟩ := Option.bind_eq_some_iff.mp hd
      refine g_fld C gk_X1 (k := 4) (by decide) q389 (Or.inl rfl) dX1_join_73 (gR_v hv29) ?_
      refine g_iload_n C dX1_join_76 rfl 2 rfl ?_
      refine g_iconst (v := 1) C dX1_join_77 (by decide) ?_
      refine g_iadd C dX1_join_78 ?_
      obtain ⟨hg, hd⟩ := gd_some hd
      obtain ⟨v31, S30, hc, hd⟩ := bn_some hd
      refine g_cF_v (n := 1) C (gk_J2).1 q441 q446 q444 q98 q448 (List.mem_of_getElem? (i := 2) rfl) (by decide +kernel) (by decide) (by decide) dX1_join_79 (As := [vI (x1 + (1 : Int32))]) (rest := [vI v28, vI (v18 + v23)]) rfl rfl (Nat.le_of_ble_eq_true rfl) hg (mh_J2_get E hc) ?_
      refine g_cast C (gk_X9).1 q1096 dX1_join_84 hd (fun hd => ?_)
      obtain ⟨hg, hd⟩ := gd_some hd
      obtain ⟨v33, S32, hc, hd⟩ := bn_some hd
      refine g_cV_v (n := 0) C (gk_X9).1 q1861 q1862 q1863 q141 q1864 (by decide +kernel) (by decide) (by decide) dX1_join_87 (As := []) (rest := [vI v28, vI (v18 + v23)]) rfl rfl (Nat.le_of_ble_eq_true rfl) hg (m_X9_size E hc) ?_
      refine g_iadd C dX1_join_90 ?_
      refine g_icmp_ge (tgt := 98) C dX1_join_91 (by decide) hd (fun hd => ?_) (fun hd => ?_)
      · refine g_iload_n C dX1_join_98 rfl 2 rfl ?_
        refine g_sub [1, 3] rfl ?_
        exact w_X1_join_b99 C E Q ih _ _ _ _ hd
      · refine g_iload_n C dX1_join_94 rfl 3 rfl ?_
        refine g_goto (tgt := 99) C dX1_join_95 (by decide) ?_
        refine g_sub [1, 3] rfl ?_
        exact w_X1_join_b99 C E Q ih _ _ _ _ hd
theorem w_X1_join_b0m {K : KT} {r : Unit} {S1 : St} (C : GC K RX1 cX1_join 6 9 []) (E : EH (kΓ K) (kHI K) (kl K)) (Q : GQ K none (.inl none) S1) : ∀ (S : St) (x0 : Option Nat), n_X1_join S x0 = some (r, S1) → G K 6 S 0 [(0, vR x0)] [] := by
  intro S x0 hd
  unfold n_X1_join at hd
  refine g_iconst (v := 0) C dX1_join_0 (by decide) ?_
  refine g_istore_n (L' := [(1, vI (0 : Int32)), (0, vR x0)]) C dX1_join_1 rfl (by decide) rfl ?_
  refine g_iconst (v := 1) C dX1_join_2 (by decide) ?_
  refine g_istore_n (L' := [(2, vI (1 : Int32)), (1, vI (0 : Int32)), (0, vR x0)]) C dX1_join_3 rfl (by decide) rfl ?_
  refine g_sub [2, 1, 0] rfl ?_
  exact w_X1_join_b4 C E Q FU _ _ _ _ hd
theorem m_X1_join {Γ : GG} {HI : St → Heap → Prop} {l : Launch} (E : EH Γ HI l) {S : St} {a0 : Option Nat} {r : Unit} {S1 : St} (h : n_X1_join S a0 = some (r, S1)) : MS Γ HI l yX1_join cX1_join 6 none 9 S [vR a0] (.inl none) S1 := by
  refine MS_of E.ntr E.hx (by decide +kernel) rfl (Nat.le_of_ble_eq_true rfl) fun K e1 e2 e3 e4 hnm C Q => ?_
  subst e1; subst e2; subst e3
  exact w_X1_join_b0m C E Q S a0 h

def n_X1_bury (S : St) (x0 : Option Nat) : Option (Unit × St) :=
  (gR S x0 5 5).bind fun v1 =>
  if v1 = none then
    some ((), S)
  else
    (gR S x0 5 5).bind fun v2 =>
    (gR S v2 7 0).bind fun v3 =>
    gd (grc S v3 8) <|
    bn (h_J2_remove_2 S v3 x0) fun v5 S4 =>
    (gR S4 x0 5 5).bind fun v6 =>
    (gI S4 v6 7 1).bind fun v7 =>
    (pI .int S4 v6 7 1 (v7 + (1 : Int32))).bind fun S8 =>
    (pR S8 x0 5 5 none).bind fun S9 =>
    some ((), S9)
theorem w_X1_bury_b0m {K : KT} {r : Unit} {S1 : St} (C : GC K RX1 cX1_bury 1 4 []) (E : EH (kΓ K) (kHI K) (kl K)) (Q : GQ K none (.inl none) S1) : ∀ (S : St) (x0 : Option Nat), n_X1_bury S x0 = some (r, S1) → G K 1 S 0 [(0, vR x0)] [] := by
  intro S x0 hd
  unfold n_X1_bury at hd
  refine g_aload_n C dX1_bury_0 rfl 0 rfl ?_
  obtain ⟨v1, hv1, hd⟩ := Option.bind_eq_some_iff.mp hd
  refine g_fldN C gk_X7 (k := 5) (by decide) q1691 rfl dX1_bury_1 (gR_v hv1) ?_
  refine g_ifnull (tgt := 39) C dX1_bury_4 (by decide) hd (fun hd => ?_) (fun hd => ?_)
  · exact g_vret C Q hd dX1_bury_39
  · refine g_aload_n C dX1_bury_7 rfl 0 rfl ?_
    obtain ⟨v2, hv2, hd⟩ := Option.bind_eq_some_iff.mp hd
    refine g_fldN C gk_X7 (k := 5) (by decide) q1691 rfl dX1_bury_8 (gR_v hv2) ?_
    obtain ⟨v3, hv3, hd⟩ := Option.bind_eq_some_iff.mp hd
    refine g_fldN C gk_X9 (k := 0) (by decide) q1823 rfl dX1_bury_11 (gR_v hv3) ?_
    refine g_aload_n C dX1_bury_14 rfl 0 rfl ?_
    obtain ⟨hg, hd⟩ := gd_some hd
    obtain ⟨v5, S4, hc, hd⟩ := bn_some hd
    refine g_cF_v (n := 1) C (gk_J2).1 q1661 q1666 q1664 q98 q1668 (List.mem_of_getElem? (i := 5) rfl) (by decide +kernel) (by decide) (by decide) dX1_bury_15 (As := [vR x0]) (rest := []) rfl rfl (Nat.le_of_ble_eq_true rfl) hg (mh_J2_remove_2 E hc) ?_
    refine g_pop C dX1_bury_20 rfl ?_
    refine g_aload_n C dX1_bury_21 rfl 0 rfl ?_
    obtain ⟨v6, hv6, hd⟩ := Option.bind_eq_some_iff.mp hd
    refine g_fldN C gk_X7 (k := 5) (by decide) q1691 rfl dX1_bury_22 (gR_v hv6) ?_
    refine g_dup C dX1_bury_25 rfl ?_
    obtain ⟨v7, hv7, hd⟩ := Option.bind_eq_some_iff.mp hd
    refine g_fldN C gk_X9 (k := 1) (by decide) q1825 rfl dX1_bury_26 (gI_v hv7) ?_
    refine g_iconst (v := 1) C dX1_bury_29 (by decide) ?_
    refine g_iadd C dX1_bury_30 ?_
    obtain ⟨S8, hS8, hd⟩ := Option.bind_eq_some_iff.mp hd
    refine g_putN C gk_X9 (k := 1) (by decide) q1825 rfl rfl dX1_bury_31 (gfit_ok (pI_v hS8).1).1 (gfit_ok (pI_v hS8).1).2 (pI_v hS8).2 ?_
    refine g_aload_n C dX1_bury_34 rfl 0 rfl ?_
    refine g_null C dX1_bury_35 ?_
    obtain ⟨S9, hS9, hd⟩ := Option.bind_eq_some_iff.mp hd
    refine g_putN C gk_X7 (k := 5) (by decide) q1691 rfl rfl dX1_bury_36 (fit_ref _ (Or.inl ⟨_, rfl⟩)).1 (fit_ref _ (Or.inl ⟨_, rfl⟩)).2 hS9 ?_
    exact g_vret C Q hd dX1_bury_39
theorem m_X1_bury {Γ : GG} {HI : St → Heap → Prop} {l : Launch} (E : EH Γ HI l) {S : St} {a0 : Option Nat} {r : Unit} {S1 : St} (h : n_X1_bury S a0 = some (r, S1)) : MS Γ HI l yX1_bury cX1_bury 1 none 4 S [vR a0] (.inl none) S1 := by
  refine MS_of E.ntr E.hx (by decide +kernel) rfl (Nat.le_of_ble_eq_true rfl) fun K e1 e2 e3 e4 hnm C Q => ?_
  subst e1; subst e2; subst e3
  exact w_X1_bury_b0m C E Q S a0 h

def n_X9_init (S : St) (x0 : Option Nat) : Option (Unit × St) :=
  gd (x0).isSome <|
  nwB S (cO 8 [vI 0, vR none, vI 0]) 3 fun q1 S2 =>
  gd (q1).isSome <|
  bn (h_J2_init S2 q1) fun _ S3 =>
  (pR S3 x0 7 0 q1).bind fun S5 =>
  some ((), S5)
theorem w_X9_init_b0m {K : KT} {r : Unit} {S1 : St} (C : GC K RX9 cX9_init 1 5 []) (E : EH (kΓ K) (kHI K) (kl K)) (Q : GQ K none (.inl none) S1) (hnm : kLv K → (kme K).name = "<init>") : ∀ (S : St) (x0 : Option Nat), n_X9_init S x0 = some (r, S1) → G K 1 S 0 [(0, vR x0)] [] := by
  intro S x0 hd
  unfold n_X9_init at hd
  refine g_aload_n C dX9_init_0 rfl 0 rfl ?_
  obtain ⟨hg, hd⟩ := gd_some hd
  refine g_objInit C q1819 q149 q150 (by decide) dX9_init_1 hg (Nat.le_of_ble_eq_true rfl) ?_
  refine g_aload_n C dX9_init_4 rfl 0 rfl ?_
  refine g_new C gk_J2 (fun j hj => gdf_J2 j hj) q1820 q152 q98 dX9_init_5 hd (fun q1 S2 hd => ?_)
  refine g_dup C dX9_init_8 rfl ?_
  obtain ⟨hg, hd⟩ := gd_some hd
  obtain ⟨_, S3, hc, hd⟩ := bn_some hd
  refine g_cI_n (n := 0) C q1821 q154 q98 q155 rfl (by decide +kernel) (by decide) (by decide) dX9_init_9 (As := []) (rest := [vR q1, vR x0]) rfl rfl (Nat.le_of_ble_eq_true rfl) hg (mh_J2_init E hc) ?_
  obtain ⟨S5, hS5, hd⟩ := Option.bind_eq_some_iff.mp hd
  refine g_putF C gk_X9 (k := 0) (by decide) q1822 rfl rfl hnm rfl dX9_init_12 (fit_ref _ (Or.inl ⟨_, rfl⟩)).1 (fit_ref _ (Or.inl ⟨_, rfl⟩)).2 hS5 ?_
  exact g_vret C Q hd dX9_init_15
theorem m_X9_init {Γ : GG} {HI : St → Heap → Prop} {l : Launch} (E : EH Γ HI l) {S : St} {a0 : Option Nat} {r : Unit} {S1 : St} (h : n_X9_init S a0 = some (r, S1)) : MS Γ HI l yX9_init cX9_init 1 none 5 S [vR a0] (.inl none) S1 := by
  refine MS_of E.ntr E.hx (by decide +kernel) rfl (Nat.le_of_ble_eq_true rfl) fun K e1 e2 e3 e4 hnm C Q => ?_
  subst e1; subst e2; subst e3
  exact w_X9_init_b0m C E Q (by exact hnm) S a0 h

def n_X1_store_b65 (k17 : St → Option Nat → Option Nat → Int32 → Option (Unit × St)) (S : St) (x0 : Option Nat) (x1 : Option Nat) (x2 : Int32) : Option (Unit × St) :=
  (gR S x0 0 5).bind fun v1 =>
  gd (grc S v1 10) <|
  bn (h_J5_nextSetBit S v1 (x2 + (1 : Int32))) fun v3 S2 =>
  k17 S2 x0 x1 v3
def n_X1_store_b157 : Nat → St → Option Nat → Option (Unit × St)
  | 0 => fun _ _ => none
  | n + 1 => fun S x0 =>
    (gR S x0 0 4).bind fun v1 =>
    gd (grc S v1 8) <|
    bn (h_J2_size S v1) fun v3 S2 =>
    if v3 ≤ (3 : Int32) then
      some ((), S2)
    else
      gd (grc S2 x0 0) <|
      bn (n_X1_join S2 x0) fun _ S4 =>
      (n_X1_store_b157 n) S4 x0
def n_X1_store_b119 : Nat → St → Option Nat → Option Nat → Option (Unit × St)
  | 0 => fun _ _ _ => none
  | n + 1 => fun S x0 x2 =>
    gd (grc S x2 12) <|
    bn (h_J26_hasNext S x2) fun v2 S1 =>
    if v2 = 0 then
      n_X1_store_b157 FU S1 x0
    else
      gd (grc S1 x2 12) <|
      bn (h_J26_next S1 x2) fun v4 S3 =>
      gd (gcst S3 v4 7) <|
      (gR S3 v4 7 0).bind fun v5 =>
      gd (grc S3 v5 8) <|
      bn (h_J2_isEmpty S3 v5) fun v7 S6 =>
      if v7 = 0 then
        (n_X1_store_b119 n) S6 x0 x2
      else
        gd (grc S6 x2 12) <|
        bn (h_J26_remove S6 x2) fun _ S8 =>
        (n_X1_store_b119 n) S8 x0 x2
def n_X1_store_b109 (S : St) (x0 : Option Nat) : Option (Unit × St) :=
  (gR S x0 0 4).bind fun v1 =>
  gd (grc S v1 8) <|
  bn (h_J2_iterator S v1) fun v3 S2 =>
  n_X1_store_b119 FU S2 x0 v3
def n_X1_store_b17 : Nat → St → Option Nat → Option Nat → Int32 → Option (Unit × St)
  | 0 => fun _ _ _ _ => none
  | n + 1 => fun S x0 x1 x2 =>
    if x2 < 0 then
      (gR S x0 0 5).bind fun v1 =>
      gd (grc S v1 10) <|
      bn (h_J5_clear S v1) fun _ S2 =>
      (gR S2 x1 7 0).bind fun v4 =>
      gd (grc S2 v4 8) <|
      bn (h_J2_isEmpty S2 v4) fun v6 S5 =>
      if v6 = 0 then
        (gR S5 x0 0 4).bind fun v7 =>
        gd (grc S5 v7 8) <|
        bn (h_J2_add S5 v7 x1) fun v9 S8 =>
        n_X1_store_b109 S8 x0
      else
        n_X1_store_b109 S5 x0
    else
      (gR S x0 0 2).bind fun v10 =>
      (aR S v10 5 x2).bind fun v11 =>
      if v11 = none then
        n_X1_store_b65 (n_X1_store_b17 n) S x0 x1 x2
      else
        (gR S x0 0 2).bind fun v12 =>
        (aR S v12 5 x2).bind fun v13 =>
        bn (n_X1_bury S v13) fun _ S14 =>
        (gR S14 x0 0 2).bind fun v16 =>
        (aR S14 v16 5 x2).bind fun v17 =>
        (pR S14 v17 5 5 x1).bind fun S18 =>
        (gR S18 x1 7 0).bind fun v19 =>
        (gR S18 x0 0 2).bind fun v20 =>
        (aR S18 v20 5 x2).bind fun v21 =>
        gd (grc S18 v19 8) <|
        bn (h_J2_add S18 v19 v21) fun v23 S22 =>
        n_X1_store_b65 (n_X1_store_b17 n) S22 x0 x1 x2
def n_X1_store (S : St) (x0 : Option Nat) : Option (Unit × St) :=
  nwB S (cO 7 [vR none, vI 0]) 2 fun q1 S2 =>
  gd (q1).isSome <|
  bn (n_X9_init S2 q1) fun _ S3 =>
  (gR S3 x0 0 5).bind fun v5 =>
  gd (grc S3 v5 10) <|
  bn (h_J5_nextSetBit S3 v5 (0 : Int32)) fun v7 S6 =>
  n_X1_store_b17 FU S6 x0 q1 v7
theorem w_X1_store_b65 {K : KT} {r : Unit} {S1 : St} (C : GC K RX1 cX1_store 3 10 []) (E : EH (kΓ K) (kHI K) (kl K)) (Q : GQ K none (.inl none) S1) {k17 : St → Option Nat → Option Nat → Int32 → Option (Unit × St)} (h17 : ∀ (S : St) (x0 : Option Nat) (x1 : Option Nat) (x2 : Int32), k17 S x0 x1 x2 = some (r, S1) → G K 3 S 17 [(0, vR x0), (1, vR x1), (2, vI x2)] []) : ∀ (S : St) (x0 : Option Nat) (x1 : Option Nat) (x2 : Int32), n_X1_store_b65 k17 S x0 x1 x2 = some (r, S1) → G K 3 S 65 [(0, vR x0), (1, vR x1), (2, vI x2)] [] := by
  intro S x0 x1 x2 hd
  unfold n_X1_store_b65 at hd
  refine g_aload_n C dX1_store_65 rfl 0 rfl ?_
  obtain ⟨v1, hv1, hd⟩ := Option.bind_eq_some_iff.mp hd
  refine g_fld C gk_X1 (k := 5) (by decide) q390 (Or.inl rfl) dX1_store_66 (gR_v hv1) ?_
  refine g_iload_n C dX1_store_69 rfl 2 rfl ?_
  refine g_iconst (v := 1) C dX1_store_70 (by decide) ?_
  refine g_iadd C dX1_store_71 ?_
  obtain ⟨hg, hd⟩ := gd_some hd
  obtain ⟨v3, S2, hc, hd⟩ := bn_some hd
  refine g_cV_v (n := 1) C (gk_J5).1 q1831 q1832 q1833 q101 q1834 (by decide +kernel) (by decide) (by decide) dX1_store_72 (As := [vI (x2 + (1 : Int32))]) (rest := []) rfl rfl (Nat.le_of_ble_eq_true rfl) hg (mh_J5_nextSetBit E hc) ?_
  refine g_istore_n (L' := [(2, vI v3), (0, vR x0), (1, vR x1)]) C dX1_store_75 rfl (by decide) rfl ?_
  refine g_goto (tgt := 17) C dX1_store_76 (by decide) ?_
  refine g_sub [1, 2, 0] rfl ?_
  exact h17 _ _ _ _ hd
theorem w_X1_store_b157 {K : KT} {r : Unit} {S1 : St} (C : GC K RX1 cX1_store 3 10 []) (E : EH (kΓ K) (kHI K) (kl K)) (Q : GQ K none (.inl none) S1) : ∀ (n : Nat) (S : St) (x0 : Option Nat), n_X1_store_b157 n S x0 = some (r, S1) → G K 3 S 157 [(0, vR x0)] [] := by
  intro n
  induction n with
  | zero => intro S x0 hd; cases hd
  | succ n ih =>
    intro S x0 hd
    unfold n_X1_store_b157 at hd
    refine g_aload_n C dX1_store_157 rfl 0 rfl ?_
    obtain ⟨v1, hv1, hd⟩ := Option.bind_eq_some_iff.mp hd
    refine g_fld C gk_X1 (k := 4) (by decide) q389 (Or.inl rfl) dX1_store_158 (gR_v hv1) ?_
    obtain ⟨hg, hd⟩ := gd_some hd
    obtain ⟨v3, S2, hc, hd⟩ := bn_some hd
    refine g_cF_v (n := 0) C (gk_J2).1 q427 q432 q430 q98 q434 (List.mem_of_getElem? (i := 1) rfl) (by decide +kernel) (by decide) (by decide) dX1_store_161 (As := []) (rest := []) rfl rfl (Nat.le_of_ble_eq_true rfl) hg (mh_J2_size E hc) ?_
    refine g_iconst (v := 3) C dX1_store_166 (by decide) ?_
    refine g_icmp_le (tgt := 177) C dX1_store_167 (by decide) hd (fun hd => ?_) (fun hd => ?_)
    · exact g_vret C Q hd dX1_store_177
    · refine g_aload_n C dX1_store_170 rfl 0 rfl ?_
      obtain ⟨hg, hd⟩ := gd_some hd
      obtain ⟨_, S4, hc, hd⟩ := bn_some hd
      refine g_cV_n (n := 0) C (gk_X1).1 q1857 q1859 qs47 q95 q1860 (by decide +kernel) (by decide) (by decide) dX1_store_171 (As := []) (rest := []) rfl rfl (Nat.le_of_ble_eq_true rfl) hg (m_X1_join E hc) ?_
      refine g_goto (tgt := 157) C dX1_store_174 (by decide) ?_
      refine g_sub [0] rfl ?_
      exact ih _ _ hd
theorem w_X1_store_b119 {K : KT} {r : Unit} {S1 : St} (C : GC K RX1 cX1_store 3 10 []) (E : EH (kΓ K) (kHI K) (kl K)) (Q : GQ K none (.inl none) S1) : ∀ (n : Nat) (S : St) (x0 : Option Nat) (x2 : Option Nat), n_X1_store_b119 n S x0 x2 = some (r, S1) → G K 3 S 119 [(0, vR x0), (2, vR x2)] [] := by
  intro n
  induction n with
  | zero => intro S x0 x2 hd; cases hd
  | succ n ih =>
    intro S x0 x2 hd
    unfold n_X1_store_b119 at hd
    refine g_aload_n C dX1_store_119 rfl 1 rfl ?_
    obtain ⟨hg, hd⟩ := gd_some hd
    obtain ⟨v2, S1, hc, hd⟩ := bn_some hd
    refine g_cF_v (n := 0) C (gk_J26).1 q925 q942 q940 q125 q944 (List.mem_of_getElem? (i := 9) rfl) (by decide +kernel) (by decide) (by decide) dX1_store_120 (As := []) (rest := []) rfl rfl (Nat.le_of_ble_eq_true rfl) hg (mh_J26_hasNext E hc) ?_
    refine g_if_eq (tgt := 157) C dX1_store_125 (by decide) hd (fun hd => ?_) (fun hd => ?_)
    · refine g_sub [0] rfl ?_
      exact w_X1_store_b157 C E Q FU _ _ hd
    · refine g_aload_n C dX1_store_128 rfl 1 rfl ?_
      obtain ⟨hg, hd⟩ := gd_some hd
      obtain ⟨v4, S3, hc, hd⟩ := bn_some hd
      refine g_cF_v (n := 0) C (gk_J26).1 q955 q1034 q1032 q125 q1036 (List.mem_of_getElem? (i := 10) rfl) (by decide +kernel) (by decide) (by decide) dX1_store_129 (As := []) (rest := []) rfl rfl (Nat.le_of_ble_eq_true rfl) hg (mh_J26_next E hc) ?_
      refine g_cast C (gk_X9).1 q1096 dX1_store_134 hd (fun hd => ?_)
      obtain ⟨v5, hv5, hd⟩ := Option.bind_eq_some_iff.mp hd
      refine g_fldN C gk_X9 (k := 0) (by decide) q1823 rfl dX1_store_137 (gR_v hv5) ?_
      obtain ⟨hg, hd⟩ := gd_some hd
      obtain ⟨v7, S6, hc, hd⟩ := bn_some hd
      refine g_cF_v (n := 0) C (gk_J2).1 q1846 q1851 q1849 q98 q1853 (List.mem_of_getElem? (i := 6) rfl) (by decide +kernel) (by decide) (by decide) dX1_store_140 (As := []) (rest := []) rfl rfl (Nat.le_of_ble_eq_true rfl) hg (mh_J2_isEmpty E hc) ?_
      refine g_if_eq (tgt := 119) C dX1_store_145 (by decide) hd (fun hd => ?_) (fun hd => ?_)
      · refine g_sub [0, 1] rfl ?_
        exact ih _ _ _ hd
      · refine g_aload_n C dX1_store_148 rfl 1 rfl ?_
        obtain ⟨hg, hd⟩ := gd_some hd
        obtain ⟨_, S8, hc, hd⟩ := bn_some hd
        refine g_cFW_n (n := 0) C (gk_J26).1 q1299 q1343 q1341 q125 q1345 (List.mem_of_getElem? (i := 11) rfl) (by decide +kernel) (by decide) (by decide) dX1_store_149 (As := []) (rest := []) rfl rfl (Nat.le_of_ble_eq_true rfl) hg (mh_J26_remove E hc) ?_
        refine g_goto (tgt := 119) C dX1_store_154 (by decide) ?_
        refine g_sub [0, 1] rfl ?_
        exact ih _ _ _ hd
theorem w_X1_store_b109 {K : KT} {r : Unit} {S1 : St} (C : GC K RX1 cX1_store 3 10 []) (E : EH (kΓ K) (kHI K) (kl K)) (Q : GQ K none (.inl none) S1) : ∀ (S : St) (x0 : Option Nat), n_X1_store_b109 S x0 = some (r, S1) → G K 3 S 109 [(0, vR x0)] [] := by
  intro S x0 hd
  unfold n_X1_store_b109 at hd
  refine g_aload_n C dX1_store_109 rfl 0 rfl ?_
  obtain ⟨v1, hv1, hd⟩ := Option.bind_eq_some_iff.mp hd
  refine g_fld C gk_X1 (k := 4) (by decide) q389 (Or.inl rfl) dX1_store_110 (gR_v hv1) ?_
  obtain ⟨hg, hd⟩ := gd_some hd
  obtain ⟨v3, S2, hc, hd⟩ := bn_some hd
  refine g_cF_v (n := 0) C (gk_J2).1 q812 q817 q815 q98 q819 (List.mem_of_getElem? (i := 3) rfl) (by decide +kernel) (by decide) (by decide) dX1_store_113 (As := []) (rest := []) rfl rfl (Nat.le_of_ble_eq_true rfl) hg (mh_J2_iterator E hc) ?_
  refine g_astore_n (L' := [(2, vR v3), (0, vR x0)]) C dX1_store_118 rfl (by decide) rfl ?_
  refine g_sub [1, 0] rfl ?_
  exact w_X1_store_b119 C E Q FU _ _ _ hd
theorem w_X1_store_b17 {K : KT} {r : Unit} {S1 : St} (C : GC K RX1 cX1_store 3 10 []) (E : EH (kΓ K) (kHI K) (kl K)) (Q : GQ K none (.inl none) S1) : ∀ (n : Nat) (S : St) (x0 : Option Nat) (x1 : Option Nat) (x2 : Int32), n_X1_store_b17 n S x0 x1 x2 = some (r, S1) → G K 3 S 17 [(0, vR x0), (1, vR x1), (2, vI x2)] [] := by
  intro n
  induction n with
  | zero => intro S x0 x1 x2 hd; cases hd
  | succ n ih =>
    intro S x0 x1 x2 hd
    unfold n_X1_store_b17 at hd
    refine g_iload_n C dX1_store_17 rfl 2 rfl ?_
    refine g_if_lt (tgt := 79) C dX1_store_18 (by decide) hd (fun hd => ?_) (fun hd => ?_)
    · refine g_aload_n C dX1_store_79 rfl 0 rfl ?_
      obtain ⟨v1, hv1, hd⟩ := Option.bind_eq_some_iff.mp hd
      refine g_fld C gk_X1 (k := 5) (by decide) q390 (Or.inl rfl) dX1_store_80 (gR_v hv1) ?_
      obtain ⟨hg, hd⟩ := gd_some hd
      obtain ⟨_, S2, hc, hd⟩ := bn_some hd
      refine g_cV_n (n := 0) C (gk_J5).1 q1844 q1508 q1509 q101 q1510 (by decide +kernel) (by decide) (by decide) dX1_store_83 (As := []) (rest := []) rfl rfl (Nat.le_of_ble_eq_true rfl) hg (mh_J5_clear E hc) ?_
      refine g_aload_n C dX1_store_86 rfl 1 rfl ?_
      obtain ⟨v4, hv4, hd⟩ := Option.bind_eq_some_iff.mp hd
      refine g_fldN C gk_X9 (k := 0) (by decide) q1823 rfl dX1_store_87 (gR_v hv4) ?_
      obtain ⟨hg, hd⟩ := gd_some hd
      obtain ⟨v6, S5, hc, hd⟩ := bn_some hd
      refine g_cF_v (n := 0) C (gk_J2).1 q1846 q1851 q1849 q98 q1853 (List.mem_of_getElem? (i := 6) rfl) (by decide +kernel) (by decide) (by decide) dX1_store_90 (As := []) (rest := []) rfl rfl (Nat.le_of_ble_eq_true rfl) hg (mh_J2_isEmpty E hc) ?_
      refine g_if_ne (tgt := 109) C dX1_store_95 (by decide) hd (fun hd => ?_) (fun hd => ?_)
      · refine g_sub [0] rfl ?_
        exact w_X1_store_b109 C E Q _ _ hd
      · refine g_aload_n C dX1_store_98 rfl 0 rfl ?_
        obtain ⟨v7, hv7, hd⟩ := Option.bind_eq_some_iff.mp hd
        refine g_fld C gk_X1 (k := 4) (by decide) q389 (Or.inl rfl) dX1_store_99 (gR_v hv7) ?_
        refine g_aload_n C dX1_store_102 rfl 1 rfl ?_
        obtain ⟨hg, hd⟩ := gd_some hd
        obtain ⟨v9, S8, hc, hd⟩ := bn_some hd
        refine g_cF_v (n := 1) C (gk_J2).1 q274 q280 q278 q98 q282 (List.mem_of_getElem? (i := 0) rfl) (by decide +kernel) (by decide) (by decide) dX1_store_103 (As := [vR x1]) (rest := []) rfl rfl (Nat.le_of_ble_eq_true rfl) hg (mh_J2_add E hc) ?_
        refine g_pop C dX1_store_108 rfl ?_
        refine g_sub [0] rfl ?_
        exact w_X1_store_b109 C E Q _ _ hd
    · refine g_aload_n C dX1_store_21 rfl 0 rfl ?_
      obtain ⟨v10, hv10, hd⟩ := Option.bind_eq_some_iff.mp hd
      refine g_fld C gk_X1 (k := 2) (by decide) q387 (Or.inl rfl) dX1_store_22 (gR_v hv10) ?_
      refine g_iload_n C dX1_store_25 rfl 2 rfl ?_
      obtain ⟨v11, hv11, hd⟩ := Option.bind_eq_some_iff.mp hd
      refine g_aald C 5 (by decide) dX1_store_26 hv11 ?_
      refine g_ifnull (tgt := 65) C dX1_store_27 (by decide) hd (fun hd => ?_) (fun hd => ?_)
      · refine g_sub [0, 1, 2] rfl ?_
        exact w_X1_store_b65 C E Q ih _ _ _ _ hd
      · refine g_aload_n C dX1_store_30 rfl 0 rfl ?_
        obtain ⟨v12, hv12, hd⟩ := Option.bind_eq_some_iff.mp hd
        refine g_fld C gk_X1 (k := 2) (by decide) q387 (Or.inl rfl) dX1_store_31 (gR_v hv12) ?_
        refine g_iload_n C dX1_store_34 rfl 2 rfl ?_
        obtain ⟨v13, hv13, hd⟩ := Option.bind_eq_some_iff.mp hd
        refine g_aald C 5 (by decide) dX1_store_35 hv13 ?_
        obtain ⟨_, S14, hc, hd⟩ := bn_some hd
        refine g_cS_n (n := 1) C q1657 q1658 q95 q1659 (by decide +kernel) (by decide) (by decide) dX1_store_36 (As := [vR v13]) (rest := []) rfl rfl (Nat.le_of_ble_eq_true rfl) (m_X1_bury E hc) ?_
        refine g_aload_n C dX1_store_39 rfl 0 rfl ?_
        obtain ⟨v16, hv16, hd⟩ := Option.bind_eq_some_iff.mp hd
        refine g_fld C gk_X1 (k := 2) (by decide) q387 (Or.inl rfl) dX1_store_40 (gR_v hv16) ?_
        refine g_iload_n C dX1_store_43 rfl 2 rfl ?_
        obtain ⟨v17, hv17, hd⟩ := Option.bind_eq_some_iff.mp hd
        refine g_aald C 5 (by decide) dX1_store_44 hv17 ?_
        refine g_aload_n C dX1_store_45 rfl 1 rfl ?_
        obtain ⟨S18, hS18, hd⟩ := Option.bind_eq_some_iff.mp hd
        refine g_putN C gk_X7 (k := 5) (by decide) q1691 rfl rfl dX1_store_46 (fit_ref _ (Or.inl ⟨_, rfl⟩)).1 (fit_ref _ (Or.inl ⟨_, rfl⟩)).2 hS18 ?_
        refine g_aload_n C dX1_store_49 rfl 1 rfl ?_
        obtain ⟨v19, hv19, hd⟩ := Option.bind_eq_some_iff.mp hd
        refine g_fldN C gk_X9 (k := 0) (by decide) q1823 rfl dX1_store_50 (gR_v hv19) ?_
        refine g_aload_n C dX1_store_53 rfl 0 rfl ?_
        obtain ⟨v20, hv20, hd⟩ := Option.bind_eq_some_iff.mp hd
        refine g_fld C gk_X1 (k := 2) (by decide) q387 (Or.inl rfl) dX1_store_54 (gR_v hv20) ?_
        refine g_iload_n C dX1_store_57 rfl 2 rfl ?_
        obtain ⟨v21, hv21, hd⟩ := Option.bind_eq_some_iff.mp hd
        refine g_aald C 5 (by decide) dX1_store_58 hv21 ?_
        obtain ⟨hg, hd⟩ := gd_some hd
        obtain ⟨v23, S22, hc, hd⟩ := bn_some hd
        refine g_cF_v (n := 1) C (gk_J2).1 q274 q280 q278 q98 q282 (List.mem_of_getElem? (i := 0) rfl) (by decide +kernel) (by decide) (by decide) dX1_store_59 (As := [vR v21]) (rest := []) rfl rfl (Nat.le_of_ble_eq_true rfl) hg (mh_J2_add E hc) ?_
        refine g_pop C dX1_store_64 rfl ?_
        refine g_sub [0, 1, 2] rfl ?_
        exact w_X1_store_b65 C E Q ih _ _ _ _ hd
theorem w_X1_store_b0m {K : KT} {r : Unit} {S1 : St} (C : GC K RX1 cX1_store 3 10 []) (E : EH (kΓ K) (kHI K) (kl K)) (Q : GQ K none (.inl none) S1) : ∀ (S : St) (x0 : Option Nat), n_X1_store S x0 = some (r, S1) → G K 3 S 0 [(0, vR x0)] [] := by
  intro S x0 hd
  unfold n_X1_store at hd
  refine g_new C gk_X9 (fun j hj => gdf_X9 j hj) q1096 q1815 q141 dX1_store_0 hd (fun q1 S2 hd => ?_)
  refine g_dup C dX1_store_3 rfl ?_
  obtain ⟨hg, hd⟩ := gd_some hd
  obtain ⟨_, S3, hc, hd⟩ := bn_some hd
  refine g_cIN_n (n := 0) C q1816 q1817 q141 q1818 rfl (by decide +kernel) (by decide) (by decide) dX1_store_4 (As := []) (rest := [vR q1]) rfl rfl (Nat.le_of_ble_eq_true rfl) hg (m_X9_init E hc) ?_
  refine g_astore_n (L' := [(1, vR q1), (0, vR x0)]) C dX1_store_7 rfl (by decide) rfl ?_
  refine g_aload_n C dX1_store_8 rfl 1 rfl ?_
  obtain ⟨v5, hv5, hd⟩ := Option.bind_eq_some_iff.mp hd
  refine g_fld C gk_X1 (k := 5) (by decide) q390 (Or.inl rfl) dX1_store_9 (gR_v hv5) ?_
  refine g_iconst (v := 0) C dX1_store_12 (by decide) ?_
  obtain ⟨hg, hd⟩ := gd_some hd
  obtain ⟨v7, S6, hc, hd⟩ := bn_some hd
  refine g_cV_v (n := 1) C (gk_J5).1 q1831 q1832 q1833 q101 q1834 (by decide +kernel) (by decide) (by decide) dX1_store_13 (As := [vI (0 : Int32)]) (rest := []) rfl rfl (Nat.le_of_ble_eq_true rfl) hg (mh_J5_nextSetBit E hc) ?_
  refine g_istore_n (L' := [(2, vI v7), (1, vR q1), (0, vR x0)]) C dX1_store_16 rfl (by decide) rfl ?_
  refine g_sub [2, 1, 0] rfl ?_
  exact w_X1_store_b17 C E Q FU _ _ _ _ hd
theorem m_X1_store {Γ : GG} {HI : St → Heap → Prop} {l : Launch} (E : EH Γ HI l) {S : St} {a0 : Option Nat} {r : Unit} {S1 : St} (h : n_X1_store S a0 = some (r, S1)) : MS Γ HI l yX1_store cX1_store 3 none 10 S [vR a0] (.inl none) S1 := by
  refine MS_of E.ntr E.hx (by decide +kernel) rfl (Nat.le_of_ble_eq_true rfl) fun K e1 e2 e3 e4 hnm C Q => ?_
  subst e1; subst e2; subst e3
  exact w_X1_store_b0m C E Q S a0 h

def n_X1_crawl_b173 (k28 : St → Option Nat → Option Nat → Option Nat → Int32 → Option (Unit × St)) (S : St) (x0 : Option Nat) (x1 : Option Nat) (x2 : Option Nat) (x3 : Int32) : Option (Unit × St) :=
  k28 S x0 x1 x2 (x3 + 1)
def n_X1_crawl_b144 (k28 : St → Option Nat → Option Nat → Option Nat → Int32 → Option (Unit × St)) (S : St) (x0 : Option Nat) (x1 : Option Nat) (x2 : Option Nat) (x3 : Int32) (x4 : Option Nat) : Option (Unit × St) :=
  (gI S x4 1 1).bind fun v1 =>
  if v1 = 0 then
    n_X1_crawl_b173 k28 S x0 x1 x2 x3
  else
    (gR S x1 4 3).bind fun v2 =>
    gd (grc S v2 14) <|
    bn (h_J33_contains S v2 x4) fun v4 S3 =>
    if v4 = 0 then
      (gR S3 x1 4 3).bind fun v5 =>
      gd (grc S3 v5 14) <|
      bn (h_J33_addLast S3 v5 x4) fun _ S6 =>
      n_X1_crawl_b173 k28 S6 x0 x1 x2 x3
    else
      n_X1_crawl_b173 k28 S3 x0 x1 x2 x3
def n_X1_crawl_b137 (k28 : St → Option Nat → Option Nat → Option Nat → Int32 → Option (Unit × St)) (S : St) (x0 : Option Nat) (x1 : Option Nat) (x2 : Option Nat) (x3 : Int32) (x4 : Option Nat) : Option (Unit × St) :=
  gd (grc S x0 0) <|
  bn (n_X1_add S x0 x4 (0 : Int32)) fun _ S1 =>
  n_X1_crawl_b144 k28 S1 x0 x1 x2 x3 x4
def n_X1_crawl_b236 (k196 : St → Option Nat → Option Nat → Int32 → Option (Unit × St)) (S : St) (x0 : Option Nat) (x1 : Option Nat) (x3 : Int32) : Option (Unit × St) :=
  k196 S x0 x1 (x3 + 1)
def n_X1_crawl_b196 : Nat → St → Option Nat → Option Nat → Int32 → Option (Unit × St)
  | 0 => fun _ _ _ _ => none
  | n + 1 => fun S x0 x1 x3 =>
    if (60 : Int32) ≤ x3 then
      some ((), S)
    else
      (gR S x0 0 2).bind fun v1 =>
      (aR S v1 5 x3).bind fun v2 =>
      if v2 = none then
        n_X1_crawl_b236 (n_X1_crawl_b196 n) S x0 x1 x3
      else
        (gR S x1 4 4).bind fun v3 =>
        gd (grc S v3 10) <|
        bn (h_J5_get S v3 x3) fun v5 S4 =>
        if v5 = 0 then
          (gR S4 x0 0 2).bind fun v6 =>
          (aR S4 v6 5 x3).bind fun v7 =>
          (gR S4 v7 5 0).bind fun v8 =>
          gd (grc S4 x0 0) <|
          bn (n_X1_add S4 x0 v8 (0 : Int32)) fun _ S9 =>
          n_X1_crawl_b236 (n_X1_crawl_b196 n) S9 x0 x1 x3
        else
          n_X1_crawl_b236 (n_X1_crawl_b196 n) S4 x0 x1 x3
def n_X1_crawl_b179 (S : St) (x0 : Option Nat) (x1 : Option Nat) : Option (Unit × St) :=
  (gR S x1 4 3).bind fun v1 =>
  gd (grc S v1 14) <|
  bn (h_J33_isEmpty S v1) fun v3 S2 =>
  if v3 = 0 then
    some ((), S2)
  else
    (pR S2 x1 4 3 none).bind fun S4 =>
    n_X1_crawl_b196 FU S4 x0 x1 (0 : Int32)
def n_X1_crawl_b28 : Nat → St → Option Nat → Option Nat → Option Nat → Int32 → Option (Unit × St)
  | 0 => fun _ _ _ _ _ => none
  | n + 1 => fun S x0 x1 x2 x3 =>
    (gR S x0 0 0).bind fun v1 =>
    gd (grc S v1 8) <|
    bn (h_J2_size S v1) fun v3 S2 =>
    if v3 ≤ x3 then
      n_X1_crawl_b179 S2 x0 x1
    else
      (gR S2 x0 0 0).bind fun v4 =>
      gd (grc S2 v4 8) <|
      bn (h_J2_get S2 v4 x3) fun v6 S5 =>
      gd (gcst S5 v6 1) <|
      (gI S5 v6 1 8).bind fun v7 =>
      if v7 = 0 then
        (gR S5 v6 1 2).bind fun v8 =>
        if v8 = x2 then
          (gR S5 x1 4 4).bind fun v9 =>
          gd (grc S5 v9 10) <|
          bn (h_J5_set S5 v9 x3) fun _ S10 =>
          (gR S10 x0 0 2).bind fun v12 =>
          (aR S10 v12 5 x3).bind fun v13 =>
          if v13 = none then
            n_X1_crawl_b137 (n_X1_crawl_b28 n) S10 x0 x1 x2 x3 v6
          else
            (gR S10 v13 5 1).bind fun v14 =>
            if v14 = x2 then
              (gI S10 v13 5 2).bind fun v15 =>
              (gI S10 v6 1 3).bind fun v16 =>
              if v15 = v16 then
                (gI S10 v6 1 1).bind fun v17 =>
                if v17 = 0 then
                  (gI S10 v13 5 3).bind fun v18 =>
                  (gI S10 v6 1 4).bind fun v19 =>
                  if v18 = v19 then
                    n_X1_crawl_b144 (n_X1_crawl_b28 n) S10 x0 x1 x2 x3 v6
                  else
                    n_X1_crawl_b137 (n_X1_crawl_b28 n) S10 x0 x1 x2 x3 v6
                else
                  n_X1_crawl_b144 (n_X1_crawl_b28 n) S10 x0 x1 x2 x3 v6
              else
                n_X1_crawl_b137 (n_X1_crawl_b28 n) S10 x0 x1 x2 x3 v6
            else
              n_X1_crawl_b137 (n_X1_crawl_b28 n) S10 x0 x1 x2 x3 v6
        else
          n_X1_crawl_b173 (n_X1_crawl_b28 n) S5 x0 x1 x2 x3
      else
        n_X1_crawl_b173 (n_X1_crawl_b28 n) S5 x0 x1 x2 x3
def n_X1_crawl (S : St) (x0 : Option Nat) (x1 : Option Nat) : Option (Unit × St) :=
  (gR S x1 4 3).bind fun v1 =>
  gd (grc S v1 14) <|
  bn (h_J33_removeFirst S v1) fun v3 S2 =>
  gd (gcst S2 v3 1) <|
  (gI S2 v3 1 8).bind fun v4 =>
  if v4 = 0 then
    gd (grc S2 x1 4) <|
    bn (n_X6_hasAll S2 x1 v3) fun v6 S5 =>
    if v6 = 0 then
      n_X1_crawl_b179 S5 x0 x1
    else
      n_X1_crawl_b28 FU S5 x0 x1 v3 (0 : Int32)
  else
    n_X1_crawl_b179 S2 x0 x1
theorem w_X1_crawl_b173 {K : KT} {r : Unit} {S1 : St} (C : GC K RX1 cX1_crawl 6 8 []) (E : EH (kΓ K) (kHI K) (kl K)) (Q : GQ K none (.inl none) S1) {k28 : St → Option Nat → Option Nat → Option Nat → Int32 → Option (Unit × St)} (h28 : ∀ (S : St) (x0 : Option Nat) (x1 : Option Nat) (x2 : Option Nat) (x3 : Int32), k28 S x0 x1 x2 x3 = some (r, S1) → G K 6 S 28 [(0, vR x0), (1, vR x1), (2, vR x2), (3, vI x3)] []) : ∀ (S : St) (x0 : Option Nat) (x1 : Option Nat) (x2 : Option Nat) (x3 : Int32), n_X1_crawl_b173 k28 S x0 x1 x2 x3 = some (r, S1) → G K 6 S 173 [(0, vR x0), (1, vR x1), (2, vR x2), (3, vI x3)] [] := by
  intro S x0 x1 x2 x3 hd
  unfold n_X1_crawl_b173 at hd
  refine g_iinc (v := x3 + 1) (L' := [(3, vI (x3 + 1)), (0, vR x0), (1, vR x1), (2, vR x2)]) C dX1_crawl_173 3 rfl rfl (by decide) rfl ?_
  refine g_goto (tgt := 28) C dX1_crawl_176 (by decide) ?_
  refine g_sub [1, 2, 3, 0] rfl ?_
  exact h28 _ _ _ _ _ hd
theorem w_X1_crawl_b144 {K : KT} {r : Unit} {S1 : St} (C : GC K RX1 cX1_crawl 6 8 []) (E : EH (kΓ K) (kHI K) (kl K)) (Q : GQ K none (.inl none) S1) {k28 : St → Option Nat → Option Nat → Option Nat → Int32 → Option (Unit × St)} (h28 : ∀ (S : St) (x0 : Option Nat) (x1 : Option Nat) (x2 : Option Nat) (x3 : Int32), k28 S x0 x1 x2 x3 = some (r, S1) → G K 6 S 28 [(0, vR x0), (1, vR x1), (2, vR x2), (3, vI x3)] []) : ∀ (S : St) (x0 : Option Nat) (x1 : Option Nat) (x2 : Option Nat) (x3 : Int32) (x4 : Option Nat), n_X1_crawl_b144 k28 S x0 x1 x2 x3 x4 = some (r, S1) → G K 6 S 144 [(0, vR x0), (1, vR x1), (2, vR x2), (3, vI x3), (4, vR x4)] [] := by
  intro S x0 x1 x2 x3 x4 hd
  unfold n_X1_crawl_b144 at hd
  refine g_aload C dX1_crawl_144 4 rfl ?_
  obtain ⟨v1, hv1, hd⟩ := Option.bind_eq_some_iff.mp hd
  refine g_fldN C gk_X2 (k := 1) (by decide) q242 rfl dX1_crawl_146 (gI_v hv1) ?_
  refine g_if_eq (tgt := 173) C dX1_crawl_149 (by decide) hd (fun hd => ?_) (fun hd => ?_)
  · refine g_sub [0, 1, 2, 3] rfl ?_
    exact w_X1_crawl_b173 C E Q h28 _ _ _ _ _ hd
  · refine g_aload_n C dX1_crawl_152 rfl 1 rfl ?_
    obtain ⟨v2, hv2, hd⟩ := Option.bind_eq_some_iff.mp hd
    refine g_fldN C gk_X6 (k := 3) (by decide) q1443 rfl dX1_crawl_153 (gR_v hv2) ?_
    refine g_aload C dX1_crawl_156 4 rfl ?_
    obtain ⟨hg, hd⟩ := gd_some hd
    obtain ⟨v4, S3, hc, hd⟩ := bn_some hd
    refine g_cV_v (n := 1) C (gk_J33).1 q1797 q1798 q1799 q138 q1800 (by decide +kernel) (by decide) (by decide) dX1_crawl_158 (As := [vR x4]) (rest := []) rfl rfl (Nat.le_of_ble_eq_true rfl) hg (mh_J33_contains E hc) ?_
    refine g_if_ne (tgt := 173) C dX1_crawl_161 (by decide) hd (fun hd => ?_) (fun hd => ?_)
    · refine g_sub [0, 1, 2, 3] rfl ?_
      exact w_X1_crawl_b173 C E Q h28 _ _ _ _ _ hd
    · refine g_aload_n C dX1_crawl_164 rfl 1 rfl ?_
      obtain ⟨v5, hv5, hd⟩ := Option.bind_eq_some_iff.mp hd
      refine g_fldN C gk_X6 (k := 3) (by decide) q1443 rfl dX1_crawl_165 (gR_v hv5) ?_
      refine g_aload C dX1_crawl_168 4 rfl ?_
      obtain ⟨hg, hd⟩ := gd_some hd
      obtain ⟨_, S6, hc, hd⟩ := bn_some hd
      refine g_cV_n (n := 1) C (gk_J33).1 q1802 q1483 q1484 q138 q1485 (by decide +kernel) (by decide) (by decide) dX1_crawl_170 (As := [vR x4]) (rest := []) rfl rfl (Nat.le_of_ble_eq_true rfl) hg (mh_J33_addLast E hc) ?_
      refine g_sub [0, 1, 2, 3] rfl ?_
      exact w_X1_crawl_b173 C E Q h28 _ _ _ _ _ hd
theorem w_X1_crawl_b137 {K : KT} {r : Unit} {S1 : St} (C : GC K RX1 cX1_crawl 6 8 []) (E : EH (kΓ K) (kHI K) (kl K)) (Q : GQ K none (.inl none) S1) {k28 : St → Option Nat → Option Nat → Option Nat → Int32 → Option (Unit × St)} (h28 : ∀ (S : St) (x0 : Option Nat) (x1 : Option Nat) (x2 : Option Nat) (x3 : Int32), k28 S x0 x1 x2 x3 = some (r, S1) → G K 6 S 28 [(0, vR x0), (1, vR x1), (2, vR x2), (3, vI x3)] []) : ∀ (S : St) (x0 : Option Nat) (x1 : Option Nat) (x2 : Option Nat) (x3 : Int32) (x4 : Option Nat), n_X1_crawl_b137 k28 S x0 x1 x2 x3 x4 = some (r, S1) → G K 6 S 137 [(0, vR x0), (1, vR x1), (2, vR x2), (3, vI x3), (4, vR x4)] [] := by
  intro S x0 x1 x2 x3 x4 hd
  unfold n_X1_crawl_b137 at hd
  refine g_aload_n C dX1_crawl_137 rfl 0 rfl ?_
  refine g_aload C dX1_crawl_138 4 rfl ?_
  refine g_iconst (v := 0) C dX1_crawl_140 (by decide) ?_
  obtain ⟨hg, hd⟩ := gd_some hd
  obtain ⟨_, S1, hc, hd⟩ := bn_some hd
  refine g_cV_n (n := 2) C (gk_X1).1 q1365 q1367 qs24 q95 q1368 (by decide +kernel) (by decide) (by decide) dX1_crawl_141 (As := [vR x4, vI (0 : Int32)]) (rest := []) rfl rfl (Nat.le_of_ble_eq_true rfl) hg (m_X1_add E hc) ?_
  refine g_sub [0, 1, 2, 3, 4] rfl ?_
  exact w_X1_crawl_b144 C E Q h28 _ _ _ _ _ _ hd
theorem w_X1_crawl_b236 {K : KT} {r : Unit} {S1 : St} (C : GC K RX1 cX1_crawl 6 8 []) (E : EH (kΓ K) (kHI K) (kl K)) (Q : GQ K none (.inl none) S1) {k196 : St → Option Nat → Option Nat → Int32 → Option (Unit × St)} (h196 : ∀ (S : St) (x0 : Option Nat) (x1 : Option Nat) (x3 : Int32), k196 S x0 x1 x3 = some (r, S1) → G K 6 S 196 [(0, vR x0), (1, vR x1), (3, vI x3)] []) : ∀ (S : St) (x0 : Option Nat) (x1 : Option Nat) (x3 : Int32), n_X1_crawl_b236 k196 S x0 x1 x3 = some (r, S1) → G K 6 S 236 [(0, vR x0), (1, vR x1), (3, vI x3)] [] := by
  intro S x0 x1 x3 hd
  unfold n_X1_crawl_b236 at hd
  refine g_iinc (v := x3 + 1) (L' := [(3, vI (x3 + 1)), (0, vR x0), (1, vR x1)]) C dX1_crawl_236 2 rfl rfl (by decide) rfl ?_
  refine g_goto (tgt := 196) C dX1_crawl_239 (by decide) ?_
  refine g_sub [1, 2, 0] rfl ?_
  exact h196 _ _ _ _ hd
theorem w_X1_crawl_b196 {K : KT} {r : Unit} {S1 : St} (C : GC K RX1 cX1_crawl 6 8 []) (E : EH (kΓ K) (kHI K) (kl K)) (Q : GQ K none (.inl none) S1) : ∀ (n : Nat) (S : St) (x0 : Option Nat) (x1 : Option Nat) (x3 : Int32), n_X1_crawl_b196 n S x0 x1 x3 = some (r, S1) → G K 6 S 196 [(0, vR x0), (1, vR x1), (3, vI x3)] [] := by
  intro n
  induction n with
  | zero => intro S x0 x1 x3 hd; cases hd
  | succ n ih =>
    intro S x0 x1 x3 hd
    unfold n_X1_crawl_b196 at hd
    refine g_iload_n C dX1_crawl_196 rfl 2 rfl ?_
    refine g_bipush (v := 60) C dX1_crawl_197 (by decide) ?_
    refine g_icmp_ge (tgt := 242) C dX1_crawl_199 (by decide) hd (fun hd => ?_) (fun hd => ?_)
    · exact g_vret C Q hd dX1_crawl_242
    · refine g_aload_n C dX1_crawl_202 rfl 0 rfl ?_
      obtain ⟨v1, hv1, hd⟩ := Option.bind_eq_some_iff.mp hd
      refine g_fld C gk_X1 (k := 2) (by decide) q387 (Or.inl rfl) dX1_crawl_203 (gR_v hv1) ?_
      refine g_iload_n C dX1_crawl_206 rfl 2 rfl ?_
      obtain ⟨v2, hv2, hd⟩ := Option.bind_eq_some_iff.mp hd
      refine g_aald C 5 (by decide) dX1_crawl_207 hv2 ?_
      refine g_ifnull (tgt := 236) C dX1_crawl_208 (by decide) hd (fun hd => ?_) (fun hd => ?_)
      · refine g_sub [0, 1, 2] rfl ?_
        exact w_X1_crawl_b236 C E Q ih _ _ _ _ hd
      · refine g_aload_n C dX1_crawl_211 rfl 1 rfl ?_
        obtain ⟨v3, hv3, hd⟩ := Option.bind_eq_some_iff.mp hd
        refine g_fldN C gk_X6 (k := 4) (by decide) q1445 rfl dX1_crawl_212 (gR_v hv3) ?_
        refine g_iload_n C dX1_crawl_215 rfl 2 rfl ?_
        obtain ⟨hg, hd⟩ := gd_some hd
        obtain ⟨v5, S4, hc, hd⟩ := bn_some hd
        refine g_cV_v (n := 1) C (gk_J5).1 q1807 q1808 q1809 q101 q1810 (by decide +kernel) (by decide) (by decide) dX1_crawl_216 (As := [vI x3]) (rest := []) rfl rfl (Nat.le_of_ble_eq_true rfl) hg (mh_J5_get E hc) ?_
        refine g_if_ne (tgt := 236) C dX1_crawl_219 (by decide) hd (fun hd => ?_) (fun hd => ?_)
        · refine g_sub [0, 1, 2] rfl ?_
          exact w_X1_crawl_b236 C E Q ih _ _ _ _ hd
        · refine g_aload_n C dX1_crawl_222 rfl 0 rfl ?_
          refine g_aload_n C dX1_crawl_223 rfl 0 rfl ?_
          obtain ⟨v6, hv6, hd⟩ := Option.bind_eq_some_iff.mp hd
          refine g_fld C gk_X1 (k := 2) (by decide) q387 (Or.inl rfl) dX1_crawl_224 (gR_v hv6) ?_
          refine g_iload_n C dX1_crawl_227 rfl 2 rfl ?_
          obtain ⟨v7, hv7, hd⟩ := Option.bind_eq_some_iff.mp hd
          refine g_aald C 5 (by decide) dX1_crawl_228 hv7 ?_
          obtain ⟨v8, hv8, hd⟩ := Option.bind_eq_some_iff.mp hd
          refine g_fldN C gk_X7 (k := 0) (by decide) q1685 rfl dX1_crawl_229 (gR_v hv8) ?_
          refine g_iconst (v := 0) C dX1_crawl_232 (by decide) ?_
          obtain ⟨hg, hd⟩ := gd_some hd
          obtain ⟨_, S9, hc, hd⟩ := bn_some hd
          refine g_cV_n (n := 2) C (gk_X1).1 q1365 q1367 qs24 q95 q1368 (by decide +kernel) (by decide) (by decide) dX1_crawl_233 (As := [vR v8, vI (0 : Int32)]) (rest := []) rfl rfl (Nat.le_of_ble_eq_true rfl) hg (m_X1_add E hc) ?_
          refine g_sub [0, 1, 2] rfl ?_
          exact w_X1_crawl_b236 C E Q ih _ _ _ _ hd
theorem w_X1_crawl_b179 {K : KT} {r : Unit} {S1 : St} (C : GC K RX1 cX1_crawl 6 8 []) (E : EH (kΓ K) (kHI K) (kl K)) (Q : GQ K none (.inl none) S1) : ∀ (S : St) (x0 : Option Nat) (x1 : Option Nat), n_X1_crawl_b179 S x0 x1 = some (r, S1) → G K 6 S 179 [(0, vR x0), (1, vR x1)] [] := by
  intro S x0 x1 hd
  unfold n_X1_crawl_b179 at hd
  refine g_aload_n C dX1_crawl_179 rfl 1 rfl ?_
  obtain ⟨v1, hv1, hd⟩ := Option.bind_eq_some_iff.mp hd
  refine g_fldN C gk_X6 (k := 3) (by decide) q1443 rfl dX1_crawl_180 (gR_v hv1) ?_
  obtain ⟨hg, hd⟩ := gd_some hd
  obtain ⟨v3, S2, hc, hd⟩ := bn_some hd
  refine g_cV_v (n := 0) C (gk_J33).1 q1803 q1804 q1805 q138 q1806 (by decide +kernel) (by decide) (by decide) dX1_crawl_183 (As := []) (rest := []) rfl rfl (Nat.le_of_ble_eq_true rfl) hg (mh_J33_isEmpty E hc) ?_
  refine g_if_eq (tgt := 242) C dX1_crawl_186 (by decide) hd (fun hd => ?_) (fun hd => ?_)
  · exact g_vret C Q hd dX1_crawl_242
  · refine g_aload_n C dX1_crawl_189 rfl 1 rfl ?_
    refine g_null C dX1_crawl_190 ?_
    obtain ⟨S4, hS4, hd⟩ := Option.bind_eq_some_iff.mp hd
    refine g_putN C gk_X6 (k := 3) (by decide) q1443 rfl rfl dX1_crawl_191 (fit_ref _ (Or.inl ⟨_, rfl⟩)).1 (fit_ref _ (Or.inl ⟨_, rfl⟩)).2 hS4 ?_
    refine g_iconst (v := 0) C dX1_crawl_194 (by decide) ?_
    refine g_istore_n (L' := [(3, vI (0 : Int32)), (0, vR x0), (1, vR x1)]) C dX1_crawl_195 rfl (by decide) rfl ?_
    refine g_sub [1, 2, 0] rfl ?_
    exact w_X1_crawl_b196 C E Q FU _ _ _ _ hd
theorem w_X1_crawl_b28 {K : KT} {r : Unit} {S1 : St} (C : GC K RX1 cX1_crawl 6 8 []) (E : EH (kΓ K) (kHI K) (kl K)) (Q : GQ K none (.inl none) S1) : ∀ (n : Nat) (S : St) (x0 : Option Nat) (x1 : Option Nat) (x2 : Option Nat) (x3 : Int32), n_X1_crawl_b28 n S x0 x1 x2 x3 = some (r, S1) → G K 6 S 28 [(0, vR x0), (1, vR x1), (2, vR x2), (3, vI x3)] [] := by
  intro n
  induction n with
  | zero => intro S x0 x1 x2 x3 hd; cases hd
  | succ n ih =>
    intro S x0 x1 x2 x3 hd
    unfold n_X1_crawl_b28 at hd
    refine g_iload_n C dX1_crawl_28 rfl 3 rfl ?_
    refine g_aload_n C dX1_crawl_29 rfl 0 rfl ?_
    obtain ⟨v1, hv1, hd⟩ := Option.bind_eq_some_iff.mp hd
    refine g_fld C gk_X1 (k := 0) (by decide) q385 (Or.inl rfl) dX1_crawl_30 (gR_v hv1) ?_
    obtain ⟨hg, hd⟩ := gd_some hd
    obtain ⟨v3, S2, hc, hd⟩ := bn_some hd
    refine g_cF_v (n := 0) C (gk_J2).1 q427 q432 q430 q98 q434 (List.mem_of_getElem? (i := 1) rfl) (by decide +kernel) (by decide) (by decide) dX1_crawl_33 (As := []) (rest := [vI x3]) rfl rfl (Nat.le_of_ble_eq_true rfl) hg (mh_J2_size E hc) ?_
    refine g_icmp_ge (tgt := 179) C dX1_crawl_38 (by decide) hd (fun hd => ?_) (fun hd => ?_)
    · refine g_sub [0, 1] rfl ?_
      exact w_X1_crawl_b179 C E Q _ _ _ hd
    · refine g_aload_n C dX1_crawl_41 rfl 0 rfl ?_
      obtain ⟨v4, hv4, hd⟩ := Option.bind_eq_some_iff.mp hd
      refine g_fld C gk_X1 (k := 0) (by decide) q385 (Or.inl rfl) dX1_crawl_42 (gR_v hv4) ?_
      refine g_iload_n C dX1_crawl_45 rfl 3 rfl ?_
      obtain ⟨hg, hd⟩ := gd_some hd
      obtain ⟨v6, S5, hc, hd⟩ := bn_some hd
      refine g_cF_v (n := 1) C (gk_J2).1 q441 q446 q444 q98 q448 (List.mem_of_getElem? (i := 2) rfl) (by decide +kernel) (by decide) (by decide) dX1_crawl_46 (As := [vI x3]) (rest := []) rfl rfl (Nat.le_of_ble_eq_true rfl) hg (mh_J2_get E hc) ?_
      refine g_cast C (gk_X2).1 q231 dX1_crawl_51 hd (fun hd => ?_)
      refine g_astore (L' := [(4, vR v6), (0, vR x0), (1, vR x1), (2, vR x2), (3, vI x3)]) C dX1_crawl_54 (by decide) rfl ?_
      refine g_aload C dX1_crawl_56 0 rfl ?_
      obtain ⟨v7, hv7, hd⟩ := Option.bind_eq_some_iff.mp hd
      refine g_fldN C gk_X2 (k := 8) (by decide) q253 rfl dX1_crawl_58 (gI_v hv7) ?_
      refine g_if_ne (tgt := 173) C dX1_crawl_61 (by decide) hd (fun hd => ?_) (fun hd => ?_)
      · refine g_sub [1, 2, 3, 4] rfl ?_
        exact w_X1_crawl_b173 C E Q ih _ _ _ _ _ hd
      · refine g_aload C dX1_crawl_64 0 rfl ?_
        obtain ⟨v8, hv8, hd⟩ := Option.bind_eq_some_iff.mp hd
        refine g_fldN C gk_X2 (k := 2) (by decide) q244 rfl dX1_crawl_66 (gR_v hv8) ?_
        refine g_aload_n C dX1_crawl_69 rfl 3 rfl ?_
        refine g_acmp_ne (tgt := 173) C dX1_crawl_70 (by decide) hd (fun hd => ?_) (fun hd => ?_)
        · refine g_sub [1, 2, 3, 4] rfl ?_
          exact w_X1_crawl_b173 C E Q ih _ _ _ _ _ hd
        · refine g_aload_n C dX1_crawl_73 rfl 2 rfl ?_
          obtain ⟨v9, hv9, hd⟩ := Option.bind_eq_some_iff.mp hd
          refine g_fldN C gk_X6 (k := 4) (by decide) q1445 rfl dX1_crawl_74 (gR_v hv9) ?_
          refine g_iload_n C dX1_crawl_77 rfl 4 rfl ?_
          obtain ⟨hg, hd⟩ := gd_some hd
          obtain ⟨_, S10, hc, hd⟩ := bn_some hd
          refine g_cV_n (n := 1) C (gk_J5).1 q1747 q1748 q1749 q101 q1750 (by decide +kernel) (by decide) (by decide) dX1_crawl_78 (As := [vI x3]) (rest := []) rfl rfl (Nat.le_of_ble_eq_true rfl) hg (mh_J5_set E hc) ?_
          refine g_aload_n C dX1_crawl_81 rfl 1 rfl ?_
          obtain ⟨v12, hv12, hd⟩ := Option.bind_eq_some_iff.mp hd
          refine g_fld C gk_X1 (k := 2) (by decide) q387 (Or.inl rfl) dX1_crawl_82 (gR_v hv12) ?_
          refine g_iload_n C dX1_crawl_85 rfl 4 rfl ?_
          obtain ⟨v13, hv13, hd⟩ := Option.bind_eq_some_iff.mp hd
          refine g_aald C 5 (by decide) dX1_crawl_86 hv13 ?_
          refine g_astore (L' := [(5, vR v13), (4, vR v6), (0, vR x0), (1, vR x1), (2, vR x2), (3, vI x3)]) C dX1_crawl_87 (by decide) rfl ?_
          refine g_aload C dX1_crawl_89 0 rfl ?_
          refine g_ifnull (tgt := 137) C dX1_crawl_91 (by decide) hd (fun hd => ?_) (fun hd => ?_)
          · refine g_sub [2, 3, 4, 5, 1] rfl ?_
            exact w_X1_crawl_b137 C E Q ih _ _ _ _ _ _ hd
          · refine g_aload C dX1_crawl_94 0 rfl ?_
            obtain ⟨v14, hv14, hd⟩ := Option.bind_eq_some_iff.mp hd
            refine g_fldN C gk_X7 (k := 1) (by decide) q1686 rfl dX1_crawl_96 (gR_v hv14) ?_
            refine g_aload_n C dX1_crawl_99 rfl 4 rfl ?_
            refine g_acmp_ne (tgt := 137) C dX1_crawl_100 (by decide) hd (fun hd => ?_) (fun hd => ?_)
            · refine g_sub [2, 3, 4, 5, 1] rfl ?_
              exact w_X1_crawl_b137 C E Q ih _ _ _ _ _ _ hd
            · refine g_aload C dX1_crawl_103 0 rfl ?_
              obtain ⟨v15, hv15, hd⟩ := Option.bind_eq_some_iff.mp hd
              refine g_fldN C gk_X7 (k := 2) (by decide) q1687 rfl dX1_crawl_105 (gI_v hv15) ?_
              refine g_aload C dX1_crawl_108 1 rfl ?_
              obtain ⟨v16, hv16, hd⟩ := Option.bind_eq_some_iff.mp hd
              refine g_fldN C gk_X2 (k := 3) (by decide) q245 rfl dX1_crawl_110 (gI_v hv16) ?_
              refine g_icmp_ne (tgt := 137) C dX1_crawl_113 (by decide) hd (fun hd => ?_) (fun hd => ?_)
              · refine g_sub [2, 3, 4, 5, 1] rfl ?_
                exact w_X1_crawl_b137 C E Q ih _ _ _ _ _ _ hd
              · refine g_aload C dX1_crawl_116 1 rfl ?_
                obtain ⟨v17, hv17, hd⟩ := Option.bind_eq_some_iff.mp hd
                refine g_fldN C gk_X2 (k := 1) (by decide) q242 rfl dX1_crawl_118 (gI_v hv17) ?_
                refine g_if_ne (tgt := 144) C dX1_crawl_121 (by decide) hd (fun hd => ?_) (fun hd => ?_)
                · refine g_sub [2, 3, 4, 5, 1] rfl ?_
                  exact w_X1_crawl_b144 C E Q ih _ _ _ _ _ _ hd
                · refine g_aload C dX1_crawl_124 0 rfl ?_
                  obtain ⟨v18, hv18, hd⟩ := Option.bind_eq_some_iff.mp hd
                  refine g_fldN C gk_X7 (k := 3) (by decide) q1688 rfl dX1_crawl_126 (gI_v hv18) ?_
                  refine g_aload C dX1_crawl_129 1 rfl ?_
                  obtain ⟨v19, hv19, hd⟩ := Option.bind_eq_some_iff.mp hd
                  refine g_fldN C gk_X2 (k := 4) (by decide) q247 rfl dX1_crawl_131 (gI_v hv19) ?_
                  refine g_icmp_eq (tgt := 144) C dX1_crawl_134 (by decide) hd (fun hd => ?_) (fun hd => ?_)
                  · refine g_sub [2, 3, 4, 5, 1] rfl ?_
                    exact w_X1_crawl_b144 C E Q ih _ _ _ _ _ _ hd
                  · refine g_sub [2, 3, 4, 5, 1] rfl ?_
                    exact w_X1_crawl_b137 C E Q ih _ _ _ _ _ _ hd
theorem w_X1_crawl_b0m {K : KT} {r : Unit} {S1 : St} (C : GC K RX1 cX1_crawl 6 8 []) (E : EH (kΓ K) (kHI K) (kl K)) (Q : GQ K none (.inl none) S1) : ∀ (S : St) (x0 : Option Nat) (x1 : Option Nat), n_X1_crawl S x0 x1 = some (r, S1) → G K 6 S 0 [(0, vR x0), (1, vR x1)] [] := by
  intro S x0 x1 hd
  unfold n_X1_crawl at hd
  refine g_aload_n C dX1_crawl_0 rfl 1 rfl ?_
  obtain ⟨v1, hv1, hd⟩ := Option.bind_eq_some_iff.mp hd
  refine g_fldN C gk_X6 (k := 3) (by decide) q1443 rfl dX1_crawl_1 (gR_v hv1) ?_
  obtain ⟨hg, hd⟩ := gd_some hd
  obtain ⟨v3, S2, hc, hd⟩ := bn_some hd
  refine g_cV_v (n := 0) C (gk_J33).1 q1786 q1787 q1788 q138 q1789 (by decide +kernel) (by decide) (by decide) dX1_crawl_4 (As := []) (rest := []) rfl rfl (Nat.le_of_ble_eq_true rfl) hg (mh_J33_removeFirst E hc) ?_
  refine g_cast C (gk_X2).1 q231 dX1_crawl_7 hd (fun hd => ?_)
  refine g_astore_n (L' := [(2, vR v3), (0, vR x0), (1, vR x1)]) C dX1_crawl_10 rfl (by decide) rfl ?_
  refine g_aload_n C dX1_crawl_11 rfl 0 rfl ?_
  obtain ⟨v4, hv4, hd⟩ := Option.bind_eq_some_iff.mp hd
  refine g_fldN C gk_X2 (k := 8) (by decide) q253 rfl dX1_crawl_12 (gI_v hv4) ?_
  refine g_if_ne (tgt := 179) C dX1_crawl_15 (by decide) hd (fun hd => ?_) (fun hd => ?_)
  · refine g_sub [1, 2] rfl ?_
    exact w_X1_crawl_b179 C E Q _ _ _ hd
  · refine g_aload_n C dX1_crawl_18 rfl 2 rfl ?_
    refine g_aload_n C dX1_crawl_19 rfl 0 rfl ?_
    obtain ⟨hg, hd⟩ := gd_some hd
    obtain ⟨v6, S5, hc, hd⟩ := bn_some hd
    refine g_cV_v (n := 1) C (gk_X6).1 q1284 q1285 q1286 q137 q1287 (by decide +kernel) (by decide) (by decide) dX1_crawl_20 (As := [vR v3]) (rest := []) rfl rfl (Nat.le_of_ble_eq_true rfl) hg (m_X6_hasAll E hc) ?_
    refine g_if_eq (tgt := 179) C dX1_crawl_23 (by decide) hd (fun hd => ?_) (fun hd => ?_)
    · refine g_sub [1, 2] rfl ?_
      exact w_X1_crawl_b179 C E Q _ _ _ hd
    · refine g_iconst (v := 0) C dX1_crawl_26 (by decide) ?_
      refine g_istore_n (L' := [(3, vI (0 : Int32)), (2, vR v3), (0, vR x0), (1, vR x1)]) C dX1_crawl_27 rfl (by decide) rfl ?_
      refine g_sub [2, 3, 1, 0] rfl ?_
      exact w_X1_crawl_b28 C E Q FU _ _ _ _ _ hd
theorem m_X1_crawl {Γ : GG} {HI : St → Heap → Prop} {l : Launch} (E : EH Γ HI l) {S : St} {a0 : Option Nat} {a1 : Option Nat} {r : Unit} {S1 : St} (h : n_X1_crawl S a0 a1 = some (r, S1)) : MS Γ HI l yX1_crawl cX1_crawl 6 none 8 S [vR a0, vR a1] (.inl none) S1 := by
  refine MS_of E.ntr E.hx (by decide +kernel) rfl (Nat.le_of_ble_eq_true rfl) fun K e1 e2 e3 e4 hnm C Q => ?_
  subst e1; subst e2; subst e3
  exact w_X1_crawl_b0m C E Q S a0 a1 h

def n_X8_end_b78 (S : St) (x0 : Option Nat) (x2 : Int32) (x3 : Int32) : Option (Int32 × St) :=
  if x2 ≤ 0 then
    rtI id (Jvm.ClassFile.FieldType.int) x3 S
  else
    (gR S x0 6 0).bind fun v1 =>
    gd (grc S v1 8) <|
    bn (h_J2_size S v1) fun v3 S2 =>
    rtI id (Jvm.ClassFile.FieldType.int) (v3 + (1 : Int32)) S2
def n_X8_end_b56 (k4 : St → Option Nat → Int32 → Int32 → Option (Int32 × St)) (S : St) (x0 : Option Nat) (x3 : Int32) (y0 : Int32) (y1 : Int32) : Option (Int32 × St) :=
  if (y1 + y0) ≤ 0 then
    n_X8_end_b78 S x0 (y1 + y0) (x3 + 1)
  else
    (gR S x0 6 0).bind fun v1 =>
    gd (grc S v1 8) <|
    bn (h_J2_size S v1) fun v3 S2 =>
    if (x3 + 1) < v3 then
      k4 S2 x0 (y1 + y0) (x3 + 1)
    else
      n_X8_end_b78 S2 x0 (y1 + y0) (x3 + 1)
def n_X8_end_b4 : Nat → St → Option Nat → Int32 → Int32 → Option (Int32 × St)
  | 0 => fun _ _ _ _ => none
  | n + 1 => fun S x0 x2 x3 =>
    (gR S x0 6 0).bind fun v1 =>
    gd (grc S v1 8) <|
    bn (h_J2_get S v1 x3) fun v3 S2 =>
    gd (gcst S2 v3 16) <|
    gd (grc S2 v3 16) <|
    bn (n_J23_intValue S2 v3) fun v5 S4 =>
    if v5 = (-2 : Int32) then
      n_X8_end_b56 (n_X8_end_b4 n) S4 x0 x3 (1 : Int32) x2
    else
      (gR S4 x0 6 0).bind fun v6 =>
      gd (grc S4 v6 8) <|
      bn (h_J2_get S4 v6 x3) fun v8 S7 =>
      gd (gcst S7 v8 16) <|
      gd (grc S7 v8 16) <|
      bn (n_J23_intValue S7 v8) fun v10 S9 =>
      if v10 = (-3 : Int32) then
        n_X8_end_b56 (n_X8_end_b4 n) S9 x0 x3 (-1 : Int32) x2
      else
        n_X8_end_b56 (n_X8_end_b4 n) S9 x0 x3 (0 : Int32) x2
def n_X8_end (S : St) (x0 : Option Nat) (x1 : Int32) : Option (Int32 × St) :=
  n_X8_end_b4 FU S x0 (0 : Int32) x1
theorem w_X8_end_b78 {K : KT} {r : Int32} {S1 : St} (C : GC K RX8 cX8_end 4 5 []) (E : EH (kΓ K) (kHI K) (kl K)) (Q : GQ K (some (Jvm.ClassFile.FieldType.int)) (.inl (some (vI r))) S1) : ∀ (S : St) (x0 : Option Nat) (x2 : Int32) (x3 : Int32), n_X8_end_b78 S x0 x2 x3 = some (r, S1) → G K 4 S 78 [(0, vR x0), (2, vI x2), (3, vI x3)] [] := by
  intro S x0 x2 x3 hd
  unfold n_X8_end_b78 at hd
  refine g_iload_n C dX8_end_78 rfl 1 rfl ?_
  refine g_if_le (tgt := 96) C dX8_end_79 (by decide) hd (fun hd => ?_) (fun hd => ?_)
  · refine g_iload_n C dX8_end_96 rfl 2 rfl ?_
    exact g_iret C Q hd dX8_end_97
  · refine g_aload_n C dX8_end_82 rfl 0 rfl ?_
    obtain ⟨v1, hv1, hd⟩ := Option.bind_eq_some_iff.mp hd
    refine g_fld C gk_X8 (k := 0) (by decide) q1730 (Or.inl rfl) dX8_end_83 (gR_v hv1) ?_
    obtain ⟨hg, hd⟩ := gd_some hd
    obtain ⟨v3, S2, hc, hd⟩ := bn_some hd
    refine g_cF_v (n := 0) C (gk_J2).1 q1718 q432 q430 q98 q434 (List.mem_of_getElem? (i := 1) rfl) (by decide +kernel) (by decide) (by decide) dX8_end_86 (As := []) (rest := []) rfl rfl (Nat.le_of_ble_eq_true rfl) hg (mh_J2_size E hc) ?_
    refine g_iconst (v := 1) C dX8_end_91 (by decide) ?_
    refine g_iadd C dX8_end_92 ?_
    refine g_goto (tgt := 97) C dX8_end_93 (by decide) ?_
    exact g_iret C Q hd dX8_end_97
theorem w_X8_end_b56 {K : KT} {r : Int32} {S1 : St} (C : GC K RX8 cX8_end 4 5 []) (E : EH (kΓ K) (kHI K) (kl K)) (Q : GQ K (some (Jvm.ClassFile.FieldType.int)) (.inl (some (vI r))) S1) {k4 : St → Option Nat → Int32 → Int32 → Option (Int32 × St)} (h4 : ∀ (S : St) (x0 : Option Nat) (x2 : Int32) (x3 : Int32), k4 S x0 x2 x3 = some (r, S1) → G K 4 S 4 [(0, vR x0), (2, vI x2), (3, vI x3)] []) : ∀ (S : St) (x0 : Option Nat) (x3 : Int32) (y0 : Int32) (y1 : Int32), n_X8_end_b56 k4 S x0 x3 y0 y1 = some (r, S1) → G K 4 S 56 [(0, vR x0), (3, vI x3)] [vI y0, vI y1] := by
  intro S x0 x3 y0 y1 hd
  unfold n_X8_end_b56 at hd
  refine g_iadd C dX8_end_56 ?_
  refine g_istore_n (L' := [(2, vI (y1 + y0)), (0, vR x0), (3, vI x3)]) C dX8_end_57 rfl (by decide) rfl ?_
  refine g_iinc (v := x3 + 1) (L' := [(3, vI (x3 + 1)), (2, vI (y1 + y0)), (0, vR x0)]) C dX8_end_58 2 rfl rfl (by decide) rfl ?_
  refine g_iload_n C dX8_end_61 rfl 1 rfl ?_
  refine g_if_le (tgt := 78) C dX8_end_62 (by decide) hd (fun hd => ?_) (fun hd => ?_)
  · refine g_sub [2, 1, 0] rfl ?_
    exact w_X8_end_b78 C E Q _ _ _ _ hd
  · refine g_iload_n C dX8_end_65 rfl 0 rfl ?_
    refine g_aload_n C dX8_end_66 rfl 2 rfl ?_
    obtain ⟨v1, hv1, hd⟩ := Option.bind_eq_some_iff.mp hd
    refine g_fld C gk_X8 (k := 0) (by decide) q1730 (Or.inl rfl) dX8_end_67 (gR_v hv1) ?_
    obtain ⟨hg, hd⟩ := gd_some hd
    obtain ⟨v3, S2, hc, hd⟩ := bn_some hd
    refine g_cF_v (n := 0) C (gk_J2).1 q1718 q432 q430 q98 q434 (List.mem_of_getElem? (i := 1) rfl) (by decide +kernel) (by decide) (by decide) dX8_end_70 (As := []) (rest := [vI (x3 + 1)]) rfl rfl (Nat.le_of_ble_eq_true rfl) hg (mh_J2_size E hc) ?_
    refine g_icmp_lt (tgt := 4) C dX8_end_75 (by decide) hd (fun hd => ?_) (fun hd => ?_)
    · refine g_sub [2, 1, 0] rfl ?_
      exact h4 _ _ _ _ hd
    · refine g_sub [2, 1, 0] rfl ?_
      exact w_X8_end_b78 C E Q _ _ _ _ hd
theorem w_X8_end_b4 {K : KT} {r : Int32} {S1 : St} (C : GC K RX8 cX8_end 4 5 []) (E : EH (kΓ K) (kHI K) (kl K)) (Q : GQ K (some (Jvm.ClassFile.FieldType.int)) (.inl (some (vI r))) S1) : ∀ (n : Nat) (S : St) (x0 : Option Nat) (x2 : Int32) (x3 : Int32), n_X8_end_b4 n S x0 x2 x3 = some (r, S1) → G K 4 S 4 [(0, vR x0), (2, vI x2), (3, vI x3)] [] := by
  intro n
  induction n with
  | zero => intro S x0 x2 x3 hd; cases hd
  | succ n ih =>
    intro S x0 x2 x3 hd
    unfold n_X8_end_b4 at hd
    refine g_iload_n C dX8_end_4 rfl 1 rfl ?_
    refine g_aload_n C dX8_end_5 rfl 0 rfl ?_
    obtain ⟨v1, hv1, hd⟩ := Option.bind_eq_some_iff.mp hd
    refine g_fld C gk_X8 (k := 0) (by decide) q1730 (Or.inl rfl) dX8_end_6 (gR_v hv1) ?_
    refine g_iload_n C dX8_end_9 rfl 2 rfl ?_
    obtain ⟨hg, hd⟩ := gd_some hd
    obtain ⟨v3, S2, hc, hd⟩ := bn_some hd
    refine g_cF_v (n := 1) C (gk_J2).1 q1720 q446 q444 q98 q448 (List.mem_of_getElem? (i := 2) rfl) (by decide +kernel) (by decide) (by decide) dX8_end_10 (As := [vI x3]) (rest := [vI x2]) rfl rfl (Nat.le_of_ble_eq_true rfl) hg (mh_J2_get E hc) ?_
    refine g_cast C (gk_J23).1 q1721 dX8_end_15 hd (fun hd => ?_)
    obtain ⟨hg, hd⟩ := gd_some hd
    obtain ⟨v5, S4, hc, hd⟩ := bn_some hd
    refine g_cV_v (n := 0) C (gk_J23).1 q1722 q1625 q1626 q122 q1627 (by decide +kernel) (by decide) (by decide) dX8_end_18 (As := []) (rest := [vI x2]) rfl rfl (Nat.le_of_ble_eq_true rfl) hg (m_J23_intValue E.lo hc) ?_
    refine g_bipush (v := (-2)) C dX8_end_21 (by decide) ?_
    refine g_icmp_ne (tgt := 30) C dX8_end_23 (by decide) hd (fun hd => ?_) (fun hd => ?_)
    · refine g_aload_n C dX8_end_30 rfl 0 rfl ?_
      obtain ⟨v6, hv6, hd⟩ := Option.bind_eq_some_iff.mp hd
      refine g_fld C gk_X8 (k := 0) (by decide) q1730 (Or.inl rfl) dX8_end_31 (gR_v hv6) ?_
      refine g_iload_n C dX8_end_34 rfl 2 rfl ?_
      obtain ⟨hg, hd⟩ := gd_some hd
      obtain ⟨v8, S7, hc, hd⟩ := bn_some hd
      refine g_cF_v (n := 1) C (gk_J2).1 q1720 q446 q444 q98 q448 (List.mem_of_getElem? (i := 2) rfl) (by decide +kernel) (by decide) (by decide) dX8_end_35 (As := [vI x3]) (rest := [vI x2]) rfl rfl (Nat.le_of_ble_eq_true rfl) hg (mh_J2_get E hc) ?_
      refine g_cast C (gk_J23).1 q1721 dX8_end_40 hd (fun hd => ?_)
      obtain ⟨hg, hd⟩ := gd_some hd
      obtain ⟨v10, S9, hc, hd⟩ := bn_some hd
      refine g_cV_v (n := 0) C (gk_J23).1 q1722 q1625 q1626 q122 q1627 (by decide +kernel) (by decide) (by decide) dX8_end_43 (As := []) (rest := [vI x2]) rfl rfl (Nat.le_of_ble_eq_true rfl) hg (m_J23_intValue E.lo hc) ?_
      refine g_bipush (v := (-3)) C dX8_end_46 (by decide) ?_
      refine g_icmp_ne (tgt := 55) C dX8_end_48 (by decide) hd (fun hd => ?_) (fun hd => ?_)
      · refine g_iconst (v := 0) C dX8_end_55 (by decide) ?_
        refine g_sub [0, 2] rfl ?_
        exact w_X8_end_b56 C E Q ih _ _ _ _ _ hd
      · refine g_iconst (v := (-1)) C dX8_end_51 (by decide) ?_
        refine g_goto (tgt := 56) C dX8_end_52 (by decide) ?_
        refine g_sub [0, 2] rfl ?_
        exact w_X8_end_b56 C E Q ih _ _ _ _ _ hd
    · refine g_iconst (v := 1) C dX8_end_26 (by decide) ?_
      refine g_goto (tgt := 56) C dX8_end_27 (by decide) ?_
      refine g_sub [0, 2] rfl ?_
      exact w_X8_end_b56 C E Q ih _ _ _ _ _ hd
theorem w_X8_end_b0m {K : KT} {r : Int32} {S1 : St} (C : GC K RX8 cX8_end 4 5 []) (E : EH (kΓ K) (kHI K) (kl K)) (Q : GQ K (some (Jvm.ClassFile.FieldType.int)) (.inl (some (vI r))) S1) : ∀ (S : St) (x0 : Option Nat) (x1 : Int32), n_X8_end S x0 x1 = some (r, S1) → G K 4 S 0 [(0, vR x0), (1, vI x1)] [] := by
  intro S x0 x1 hd
  unfold n_X8_end at hd
  refine g_iconst (v := 0) C dX8_end_0 (by decide) ?_
  refine g_istore_n (L' := [(2, vI (0 : Int32)), (0, vR x0), (1, vI x1)]) C dX8_end_1 rfl (by decide) rfl ?_
  refine g_iload_n C dX8_end_2 rfl 2 rfl ?_
  refine g_istore_n (L' := [(3, vI x1), (2, vI (0 : Int32)), (0, vR x0), (1, vI x1)]) C dX8_end_3 rfl (by decide) rfl ?_
  refine g_sub [2, 1, 0] rfl ?_
  exact w_X8_end_b4 C E Q FU _ _ _ _ hd
theorem m_X8_end {Γ : GG} {HI : St → Heap → Prop} {l : Launch} (E : EH Γ HI l) {S : St} {a0 : Option Nat} {a1 : Int32} {r : Int32} {S1 : St} (h : n_X8_end S a0 a1 = some (r, S1)) : MS Γ HI l yX8_end cX8_end 4 (some (Jvm.ClassFile.FieldType.int)) 5 S [vR a0, vI a1] (.inl (some (vI r))) S1 := by
  refine MS_of E.ntr E.hx (by decide +kernel) rfl (Nat.le_of_ble_eq_true rfl) fun K e1 e2 e3 e4 hnm C Q => ?_
  subst e1; subst e2; subst e3
  exact w_X8_end_b0m C E Q S a0 a1 h

def n_X8_take_b146 (kr : St → Option Nat → Int32 → Option (Int32 × St)) (k0 : St → Option Nat → Int32 → Option (Int32 × St)) (S : St) (x0 : Option Nat) (x1 : Int32) : Option (Int32 × St) :=
  k0 S x0 x1
def n_X8_take_b104 (kr : St → Option Nat → Int32 → Option (Int32 × St)) (k0 : St → Option Nat → Int32 → Option (Int32 × St)) (S : St) (x0 : Option Nat) (x1 : Int32) (x2 : Int32) : Option (Int32 × St) :=
  if x2 < 0 then
    n_X8_take_b146 kr k0 S x0 x1
  else
    (gI S x0 6 1).bind fun v1 =>
    if v1 < x1 then
      n_X8_take_b146 kr k0 S x0 x1
    else
      (gR S x0 6 3).bind fun v2 =>
      gd (grc S v2 8) <|
      bn (h_J2_size S v2) fun v4 S3 =>
      (gI S3 x0 6 2).bind fun v5 =>
      if v5 ≤ v4 then
        n_X8_take_b146 kr k0 S3 x0 x1
      else
        (gR S3 x0 6 3).bind fun v6 =>
        bn (n_J23_valueOf S3 x2) fun v8 S7 =>
        gd (grc S7 v6 8) <|
        bn (h_J2_add S7 v6 v8) fun v10 S9 =>
        n_X8_take_b146 kr k0 S9 x0 x1
def n_X8_take_b86 (kr : St → Option Nat → Int32 → Option (Int32 × St)) (k0 : St → Option Nat → Int32 → Option (Int32 × St)) (S : St) (x0 : Option Nat) (x1 : Int32) (x2 : Int32) : Option (Int32 × St) :=
  if x2 = (-2 : Int32) then
    gd (grc S x0 6) <|
    bn (kr S x0 (x1 + (1 : Int32))) fun v2 S1 =>
    if v2 = 0 then
      n_X8_take_b104 kr k0 S1 x0 x1 x2
    else
      rtI id (Jvm.ClassFile.FieldType.boolean) (1 : Int32) S1
  else
    n_X8_take_b104 kr k0 S x0 x1 x2
def n_X8_take_b64 (kr : St → Option Nat → Int32 → Option (Int32 × St)) (k0 : St → Option Nat → Int32 → Option (Int32 × St)) (S : St) (x0 : Option Nat) (x1 : Int32) (x2 : Int32) : Option (Int32 × St) :=
  (gI S x0 6 4).bind fun v1 =>
  (pI .int S x0 6 4 (v1 + (1 : Int32))).bind fun S2 =>
  if x2 = (-3 : Int32) then
    if x1 ≤ 0 then
      n_X8_take_b86 kr k0 S2 x0 x1 x2
    else
      rtI id (Jvm.ClassFile.FieldType.boolean) (0 : Int32) S2
  else
    n_X8_take_b86 kr k0 S2 x0 x1 x2
def n_X8_take_b0 (kr : St → Option Nat → Int32 → Option (Int32 × St)) : Nat → St → Option Nat → Int32 → Option (Int32 × St)
  | 0 => fun _ _ _ => none
  | n + 1 => fun S x0 x1 =>
    (gI S x0 6 4).bind fun v1 =>
    (gR S x0 6 0).bind fun v2 =>
    gd (grc S v2 8) <|
    bn (h_J2_size S v2) fun v4 S3 =>
    if v4 ≤ v1 then
      rtI id (Jvm.ClassFile.FieldType.boolean) (0 : Int32) S3
    else
      (gR S3 x0 6 0).bind fun v5 =>
      (gI S3 x0 6 4).bind fun v6 =>
      gd (grc S3 v5 8) <|
      bn (h_J2_get S3 v5 v6) fun v8 S7 =>
      gd (gcst S7 v8 16) <|
      gd (grc S7 v8 16) <|
      bn (n_J23_intValue S7 v8) fun v10 S9 =>
      if v10 = (-2 : Int32) then
        (gI S9 x0 6 4).bind fun v11 =>
        gd (grc S9 x0 6) <|
        bn (n_X8_end S9 x0 v11) fun v13 S12 =>
        (gR S12 x0 6 0).bind fun v14 =>
        gd (grc S12 v14 8) <|
        bn (h_J2_size S12 v14) fun v16 S15 =>
        if v13 ≤ v16 then
          n_X8_take_b64 kr (n_X8_take_b0 kr n) S15 x0 x1 v10
        else
          rtI id (Jvm.ClassFile.FieldType.boolean) (1 : Int32) S15
      else
        n_X8_take_b64 kr (n_X8_take_b0 kr n) S9 x0 x1 v10
def n_X8_take_b0m (kr : St → Option Nat → Int32 → Option (Int32 × St)) (S : St) (a0 : Option Nat) (a1 : Int32) : Option (Int32 × St) := n_X8_take_b0 kr FU S a0 a1
def n_X8_take : Nat → St → Option Nat → Int32 → Option (Int32 × St)
  | 0 => fun _ _ _ => none
  | n + 1 => n_X8_take_b0m (n_X8_take n)
theorem w_X8_take_b146 {K : KT} {n0 : Nat} {r : Int32} {S1 : St} (C : GC K RX8 cX8_take 3 (9 + (n0 + 1)) []) (E : EH (kΓ K) (kHI K) (kl K)) (Q : GQ K (some (Jvm.ClassFile.FieldType.boolean)) (.inl (some (vI r))) S1) {kr : St → Option Nat → Int32 → Option (Int32 × St)} (hr : ∀ (S : St) (a0 : Option Nat) (a1 : Int32) (r : Int32) (S1 : St), kr S a0 a1 = some (r, S1) → MS (kΓ K) (kHI K) (kl K) yX8_take cX8_take 3 (some (Jvm.ClassFile.FieldType.boolean)) (9 + n0) S [vR a0, vI a1] (.inl (some (vI r))) S1) {k0 : St → Option Nat → Int32 → Option (Int32 × St)} (h0 : ∀ (S : St) (x0 : Option Nat) (x1 : Int32), k0 S x0 x1 = some (r, S1) → G K 3 S 0 [(0, vR x0), (1, vI x1)] []) : ∀ (S : St) (x0 : Option Nat) (x1 : Int32), n_X8_take_b146 kr k0 S x0 x1 = some (r, S1) → G K 3 S 146 [(0, vR x0), (1, vI x1)] [] := by
  intro S x0 x1 hd
  unfold n_X8_take_b146 at hd
  refine g_goto (tgt := 0) C dX8_take_146 (by decide) ?_
  refine g_sub [0, 1] rfl ?_
  exact h0 _ _ _ hd
theorem w_X8_take_b104 {K : KT} {n0 : Nat} {r : Int32} {S1 : St} (C : GC K RX8 cX8_take 3 (9 + (n0 + 1)) []) (E : EH (kΓ K) (kHI K) (kl K)) (Q : GQ K (some (Jvm.ClassFile.FieldType.boolean)) (.inl (some (vI r))) S1) {kr : St → Option Nat → Int32 → Option (Int32 × St)} (hr : ∀ (S : St) (a0 : Option Nat) (a1 : Int32) (r : Int32) (S1 : St), kr S a0 a1 = some (r, S1) → MS (kΓ K) (kHI K) (kl K) yX8_take cX8_take 3 (some (Jvm.ClassFile.FieldType.boolean)) (9 + n0) S [vR a0, vI a1] (.inl (some (vI r))) S1) {k0 : St → Option Nat → Int32 → Option (Int32 × St)} (h0 : ∀ (S : St) (x0 : Option Nat) (x1 : Int32), k0 S x0 x1 = some (r, S1) → G K 3 S 0 [(0, vR x0), (1, vI x1)] []) : ∀ (S : St) (x0 : Option Nat) (x1 : Int32) (x2 : Int32), n_X8_take_b104 kr k0 S x0 x1 x2 = some (r, S1) → G K 3 S 104 [(0, vR x0), (1, vI x1), (2, vI x2)] [] := by
  intro S x0 x1 x2 hd
  unfold n_X8_take_b104 at hd
  refine g_iload_n C dX8_take_104 rfl 2 rfl ?_
  refine g_if_lt (tgt := 146) C dX8_take_105 (by decide) hd (fun hd => ?_) (fun hd => ?_)
  · refine g_sub [0, 1] rfl ?_
    exact w_X8_take_b146 C E Q hr h0 _ _ _ hd
  · refine g_iload_n C dX8_take_108 rfl 1 rfl ?_
    refine g_aload_n C dX8_take_109 rfl 0 rfl ?_
    obtain ⟨v1, hv1, hd⟩ := Option.bind_eq_some_iff.mp hd
    refine g_fld C gk_X8 (k := 1) (by decide) q1731 (Or.inl rfl) dX8_take_110 (gI_v hv1) ?_
    refine g_icmp_gt (tgt := 146) C dX8_take_113 (by decide) hd (fun hd => ?_) (fun hd => ?_)
    · refine g_sub [0, 1] rfl ?_
      exact w_X8_take_b146 C E Q hr h0 _ _ _ hd
    · refine g_aload_n C dX8_take_116 rfl 0 rfl ?_
      obtain ⟨v2, hv2, hd⟩ := Option.bind_eq_some_iff.mp hd
      refine g_fld C gk_X8 (k := 3) (by decide) q1733 (Or.inl rfl) dX8_take_117 (gR_v hv2) ?_
      obtain ⟨hg, hd⟩ := gd_some hd
      obtain ⟨v4, S3, hc, hd⟩ := bn_some hd
      refine g_cF_v (n := 0) C (gk_J2).1 q1718 q432 q430 q98 q434 (List.mem_of_getElem? (i := 1) rfl) (by decide +kernel) (by omega) (by decide) dX8_take_120 (As := []) (rest := []) rfl rfl (Nat.le_of_ble_eq_true rfl) hg (mh_J2_size E hc) ?_
      refine g_aload_n C dX8_take_125 rfl 0 rfl ?_
      obtain ⟨v5, hv5, hd⟩ := Option.bind_eq_some_iff.mp hd
      refine g_fld C gk_X8 (k := 2) (by decide) q1732 (Or.inl rfl) dX8_take_126 (gI_v hv5) ?_
      refine g_icmp_ge (tgt := 146) C dX8_take_129 (by decide) hd (fun hd => ?_) (fun hd => ?_)
      · refine g_sub [0, 1] rfl ?_
        exact w_X8_take_b146 C E Q hr h0 _ _ _ hd
      · refine g_aload_n C dX8_take_132 rfl 0 rfl ?_
        obtain ⟨v6, hv6, hd⟩ := Option.bind_eq_some_iff.mp hd
        refine g_fld C gk_X8 (k := 3) (by decide) q1733 (Or.inl rfl) dX8_take_133 (gR_v hv6) ?_
        refine g_iload_n C dX8_take_136 rfl 2 rfl ?_
        obtain ⟨v8, S7, hc, hd⟩ := bn_some hd
        refine g_cS_v (n := 1) C q1727 q1229 q122 q1230 (by decide +kernel) (by omega) (by decide) dX8_take_137 (As := [vI x2]) (rest := [vR v6]) rfl rfl (Nat.le_of_ble_eq_true rfl) (m_J23_valueOf E.lo hc) ?_
        obtain ⟨hg, hd⟩ := gd_some hd
        obtain ⟨v10, S9, hc, hd⟩ := bn_some hd
        refine g_cF_v (n := 1) C (gk_J2).1 q1729 q280 q278 q98 q282 (List.mem_of_getElem? (i := 0) rfl) (by decide +kernel) (by omega) (by decide) dX8_take_140 (As := [vR v8]) (rest := []) rfl rfl (Nat.le_of_ble_eq_true rfl) hg (mh_J2_add E hc) ?_
        refine g_pop C dX8_take_145 rfl ?_
        refine g_sub [0, 1] rfl ?_
        exact w_X8_take_b146 C E Q hr h0 _ _ _ hd
theorem w_X8_take_b86 {K : KT} {n0 : Nat} {r : Int32} {S1 : St} (C : GC K RX8 cX8_take 3 (9 + (n0 + 1)) []) (E : EH (kΓ K) (kHI K) (kl K)) (Q : GQ K (some (Jvm.ClassFile.FieldType.boolean)) (.inl (some (vI r))) S1) {kr : St → Option Nat → Int32 → Option (Int32 × St)} (hr : ∀ (S : St) (a0 : Option Nat) (a1 : Int32) (r : Int32) (S1 : St), kr S a0 a1 = some (r, S1) → MS (kΓ K) (kHI K) (kl K) yX8_take cX8_take 3 (some (Jvm.ClassFile.FieldType.boolean)) (9 + n0) S [vR a0, vI a1] (.inl (some (vI r))) S1) {k0 : St → Option Nat → Int32 → Option (Int32 × St)} (h0 : ∀ (S : St) (x0 : Option Nat) (x1 : Int32), k0 S x0 x1 = some (r, S1) → G K 3 S 0 [(0, vR x0), (1, vI x1)] []) : ∀ (S : St) (x0 : Option Nat) (x1 : Int32) (x2 : Int32), n_X8_take_b86 kr k0 S x0 x1 x2 = some (r, S1) → G K 3 S 86 [(0, vR x0), (1, vI x1), (2, vI x2)] [] := by
  intro S x0 x1 x2 hd
  unfold n_X8_take_b86 at hd
  refine g_iload_n C dX8_take_86 rfl 2 rfl ?_
  refine g_bipush (v := (-2)) C dX8_take_87 (by decide) ?_
  refine g_icmp_ne (tgt := 104) C dX8_take_89 (by decide) hd (fun hd => ?_) (fun hd => ?_)
  · refine g_sub [0, 1, 2] rfl ?_
    exact w_X8_take_b104 C E Q hr h0 _ _ _ _ hd
  · refine g_aload_n C dX8_take_92 rfl 0 rfl ?_
    refine g_iload_n C dX8_take_93 rfl 1 rfl ?_
    refine g_iconst (v := 1) C dX8_take_94 (by decide) ?_
    refine g_iadd C dX8_take_95 ?_
    obtain ⟨hg, hd⟩ := gd_some hd
    obtain ⟨v2, S1, hc, hd⟩ := bn_some hd
    refine g_cV_v (n := 1) C (gk_X8).1 q1713 q1715 qs40 q140 q1716 (by decide +kernel) (by omega) (by decide) dX8_take_96 (As := [vI (x1 + (1 : Int32))]) (rest := []) rfl rfl (Nat.le_of_ble_eq_true rfl) hg (hr _ _ _ _ _ hc) ?_
    refine g_if_eq (tgt := 104) C dX8_take_99 (by decide) hd (fun hd => ?_) (fun hd => ?_)
    · refine g_sub [0, 1, 2] rfl ?_
      exact w_X8_take_b104 C E Q hr h0 _ _ _ _ hd
    · refine g_iconst (v := 1) C dX8_take_102 (by decide) ?_
      exact g_iret C Q hd dX8_take_103
theorem w_X8_take_b64 {K : KT} {n0 : Nat} {r : Int32} {S1 : St} (C : GC K RX8 cX8_take 3 (9 + (n0 + 1)) []) (E : EH (kΓ K) (kHI K) (kl K)) (Q : GQ K (some (Jvm.ClassFile.FieldType.boolean)) (.inl (some (vI r))) S1) {kr : St → Option Nat → Int32 → Option (Int32 × St)} (hr : ∀ (S : St) (a0 : Option Nat) (a1 : Int32) (r : Int32) (S1 : St), kr S a0 a1 = some (r, S1) → MS (kΓ K) (kHI K) (kl K) yX8_take cX8_take 3 (some (Jvm.ClassFile.FieldType.boolean)) (9 + n0) S [vR a0, vI a1] (.inl (some (vI r))) S1) {k0 : St → Option Nat → Int32 → Option (Int32 × St)} (h0 : ∀ (S : St) (x0 : Option Nat) (x1 : Int32), k0 S x0 x1 = some (r, S1) → G K 3 S 0 [(0, vR x0), (1, vI x1)] []) : ∀ (S : St) (x0 : Option Nat) (x1 : Int32) (x2 : Int32), n_X8_take_b64 kr k0 S x0 x1 x2 = some (r, S1) → G K 3 S 64 [(0, vR x0), (1, vI x1), (2, vI x2)] [] := by
  intro S x0 x1 x2 hd
  unfold n_X8_take_b64 at hd
  refine g_aload_n C dX8_take_64 rfl 0 rfl ?_
  refine g_dup C dX8_take_65 rfl ?_
  obtain ⟨v1, hv1, hd⟩ := Option.bind_eq_some_iff.mp hd
  refine g_fld C gk_X8 (k := 4) (by decide) q1735 (Or.inl rfl) dX8_take_66 (gI_v hv1) ?_
  refine g_iconst (v := 1) C dX8_take_69 (by decide) ?_
  refine g_iadd C dX8_take_70 ?_
  obtain ⟨S2, hS2, hd⟩ := Option.bind_eq_some_iff.mp hd
  refine g_put C gk_X8 (k := 4) (by decide) q1735 (Or.inl rfl) rfl dX8_take_71 (gfit_ok (pI_v hS2).1).1 (gfit_ok (pI_v hS2).1).2 (pI_v hS2).2 ?_
  refine g_iload_n C dX8_take_74 rfl 2 rfl ?_
  refine g_bipush (v := (-3)) C dX8_take_75 (by decide) ?_
  refine g_icmp_ne (tgt := 86) C dX8_take_77 (by decide) hd (fun hd => ?_) (fun hd => ?_)
  · refine g_sub [0, 1, 2] rfl ?_
    exact w_X8_take_b86 C E Q hr h0 _ _ _ _ hd
  · refine g_iload_n C dX8_take_80 rfl 1 rfl ?_
    refine g_if_le (tgt := 86) C dX8_take_81 (by decide) hd (fun hd => ?_) (fun hd => ?_)
    · refine g_sub [0, 1, 2] rfl ?_
      exact w_X8_take_b86 C E Q hr h0 _ _ _ _ hd
    · refine g_iconst (v := 0) C dX8_take_84 (by decide) ?_
      exact g_iret C Q hd dX8_take_85
theorem w_X8_take_b0 {K : KT} {n0 : Nat} {r : Int32} {S1 : St} (C : GC K RX8 cX8_take 3 (9 + (n0 + 1)) []) (E : EH (kΓ K) (kHI K) (kl K)) (Q : GQ K (some (Jvm.ClassFile.FieldType.boolean)) (.inl (some (vI r))) S1) {kr : St → Option Nat → Int32 → Option (Int32 × St)} (hr : ∀ (S : St) (a0 : Option Nat) (a1 : Int32) (r : Int32) (S1 : St), kr S a0 a1 = some (r, S1) → MS (kΓ K) (kHI K) (kl K) yX8_take cX8_take 3 (some (Jvm.ClassFile.FieldType.boolean)) (9 + n0) S [vR a0, vI a1] (.inl (some (vI r))) S1) : ∀ (n : Nat) (S : St) (x0 : Option Nat) (x1 : Int32), n_X8_take_b0 kr n S x0 x1 = some (r, S1) → G K 3 S 0 [(0, vR x0), (1, vI x1)] [] := by
  intro n
  induction n with
  | zero => intro S x0 x1 hd; cases hd
  | succ n ih =>
    intro S x0 x1 hd
    unfold n_X8_take_b0 at hd
    refine g_aload_n C dX8_take_0 rfl 0 rfl ?_
    obtain ⟨v1, hv1, hd⟩ := Option.bind_eq_some_iff.mp hd
    refine g_fld C gk_X8 (k := 4) (by decide) q1735 (Or.inl rfl) dX8_take_1 (gI_v hv1) ?_
    refine g_aload_n C dX8_take_4 rfl 0 rfl ?_
    obtain ⟨v2, hv2, hd⟩ := Option.bind_eq_some_iff.mp hd
    refine g_fld C gk_X8 (k := 0) (by decide) q1730 (Or.inl rfl) dX8_take_5 (gR_v hv2) ?_
    obtain ⟨hg, hd⟩ := gd_some hd
    obtain ⟨v4, S3, hc, hd⟩ := bn_some hd
    refine g_cF_v (n := 0) C (gk_J2).1 q1718 q432 q430 q98 q434 (List.mem_of_getElem? (i := 1) rfl) (by decide +kernel) (by omega) (by decide) dX8_take_8 (As := []) (rest := [vI v1]) rfl rfl (Nat.le_of_ble_eq_true rfl) hg (mh_J2_size E hc) ?_
    refine g_icmp_ge (tgt := 149) C dX8_take_13 (by decide) hd (fun hd => ?_) (fun hd => ?_)
    · refine g_iconst (v := 0) C dX8_take_149 (by decide) ?_
      exact g_iret C Q hd dX8_take_150
    · refine g_aload_n C dX8_take_16 rfl 0 rfl ?_
      obtain ⟨v5, hv5, hd⟩ := Option.bind_eq_some_iff.mp hd
      refine g_fld C gk_X8 (k := 0) (by decide) q1730 (Or.inl rfl) dX8_take_17 (gR_v hv5) ?_
      refine g_aload_n C dX8_take_20 rfl 0 rfl ?_
      obtain ⟨v6, hv6, hd⟩ := Option.bind_eq_some_iff.mp hd
      refine g_fld C gk_X8 (k := 4) (by decide) q1735 (Or.inl rfl) dX8_take_21 (gI_v hv6) ?_
      obtain ⟨hg, hd⟩ := gd_some hd
      obtain ⟨v8, S7, hc, hd⟩ := bn_some hd
      refine g_cF_v (n := 1) C (gk_J2).1 q1720 q446 q444 q98 q448 (List.mem_of_getElem? (i := 2) rfl) (by decide +kernel) (by omega) (by decide) dX8_take_24 (As := [vI v6]) (rest := []) rfl rfl (Nat.le_of_ble_eq_true rfl) hg (mh_J2_get E hc) ?_
      refine g_cast C (gk_J23).1 q1721 dX8_take_29 hd (fun hd => ?_)
      obtain ⟨hg, hd⟩ := gd_some hd
      obtain ⟨v10, S9, hc, hd⟩ := bn_some hd
      refine g_cV_v (n := 0) C (gk_J23).1 q1722 q1625 q1626 q122 q1627 (by decide +kernel) (by omega) (by decide) dX8_take_32 (As := []) (rest := []) rfl rfl (Nat.le_of_ble_eq_true rfl) hg (m_J23_intValue E.lo hc) ?_
      refine g_istore_n (L' := [(2, vI v10), (0, vR x0), (1, vI x1)]) C dX8_take_35 rfl (by decide) rfl ?_
      refine g_iload_n C dX8_take_36 rfl 0 rfl ?_
      refine g_bipush (v := (-2)) C dX8_take_37 (by decide) ?_
      refine g_icmp_ne (tgt := 64) C dX8_take_39 (by decide) hd (fun hd => ?_) (fun hd => ?_)
      · refine g_sub [1, 2, 0] rfl ?_
        exact w_X8_take_b64 C E Q hr ih _ _ _ _ hd
      · refine g_aload_n C dX8_take_42 rfl 1 rfl ?_
        refine g_aload_n C dX8_take_43 rfl 1 rfl ?_
        obtain ⟨v11, hv11, hd⟩ := Option.bind_eq_some_iff.mp hd
        refine g_fld C gk_X8 (k := 4) (by decide) q1735 (Or.inl rfl) dX8_take_44 (gI_v hv11) ?_
        obtain ⟨hg, hd⟩ := gd_some hd
        obtain ⟨v13, S12, hc, hd⟩ := bn_some hd
        refine g_cV_v (n := 1) C (gk_X8).1 q1723 q1725 qs41 q140 q1726 (by decide +kernel) (by omega) (by decide) dX8_take_47 (As := [vI v11]) (rest := []) rfl rfl (Nat.le_of_ble_eq_true rfl) hg (m_X8_end E hc) ?_
        refine g_aload_n C dX8_take_50 rfl 1 rfl ?_
        obtain ⟨v14, hv14, hd⟩ := Option.bind_eq_some_iff.mp hd
        refine g_fld C gk_X8 (k := 0) (by decide) q1730 (Or.inl rfl) dX8_take_51 (gR_v hv14) ?_
        obtain ⟨hg, hd⟩ := gd_some hd
        obtain ⟨v16, S15, hc, hd⟩ := bn_some hd
        refine g_cF_v (n := 0) C (gk_J2).1 q1718 q432 q430 q98 q434 (List.mem_of_getElem? (i := 1) rfl) (by decide +kernel) (by omega) (by decide) dX8_take_54 (As := []) (rest := [vI v13]) rfl rfl (Nat.le_of_ble_eq_true rfl) hg (mh_J2_size E hc) ?_
        refine g_icmp_le (tgt := 64) C dX8_take_59 (by decide) hd (fun hd => ?_) (fun hd => ?_)
        · refine g_sub [1, 2, 0] rfl ?_
          exact w_X8_take_b64 C E Q hr ih _ _ _ _ hd
        · refine g_iconst (v := 1) C dX8_take_62 (by decide) ?_
          exact g_iret C Q hd dX8_take_63
theorem m_X8_take {Γ : GG} {HI : St → Heap → Prop} {l : Launch} (E : EH Γ HI l) : ∀ (n : Nat) (S : St) (a0 : Option Nat) (a1 : Int32) (r : Int32) (S1 : St), n_X8_take n S a0 a1 = some (r, S1) → MS Γ HI l yX8_take cX8_take 3 (some (Jvm.ClassFile.FieldType.boolean)) (9 + n) S [vR a0, vI a1] (.inl (some (vI r))) S1 := by
  intro n
  induction n with
  | zero => intro S a0 a1 r S1 h; cases h
  | succ n ih =>
    intro S a0 a1 r S1 h
    refine MS_of E.ntr E.hx (by decide +kernel) rfl (Nat.le_of_ble_eq_true rfl) fun K e1 e2 e3 e4 hnm C Q => ?_
    subst e1; subst e2; subst e3
    exact g_sub [0, 1] rfl (w_X8_take_b0 C E Q (kr := n_X8_take n) ih FU S a0 a1 h)

def n_X8_init (S : St) (x0 : Option Nat) (x1 : Option Nat) (x2 : Int32) (x3 : Int32) : Option (Unit × St) :=
  gd (x0).isSome <|
  nwB S (cO 8 [vI 0, vR none, vI 0]) 3 fun q1 S2 =>
  gd (q1).isSome <|
  bn (h_J2_init S2 q1) fun _ S3 =>
  (pR S3 x0 6 3 q1).bind fun S5 =>
  (pR S5 x0 6 0 x1).bind fun S6 =>
  (pI .int S6 x0 6 1 x2).bind fun S7 =>
  (pI .int S7 x0 6 2 x3).bind fun S8 =>
  gd (grc S8 x0 6) <|
  bn (n_X8_take 25 S8 x0 (0 : Int32)) fun v10 S9 =>
  some ((), S9)
theorem w_X8_init_b0m {K : KT} {r : Unit} {S1 : St} (C : GC K RX8 cX8_init 4 35 []) (E : EH (kΓ K) (kHI K) (kl K)) (Q : GQ K none (.inl none) S1) (hnm : kLv K → (kme K).name = "<init>") : ∀ (S : St) (x0 : Option Nat) (x1 : Option Nat) (x2 : Int32) (x3 : Int32), n_X8_init S x0 x1 x2 x3 = some (r, S1) → G K 4 S 0 [(0, vR x0), (1, vR x1), (2, vI x2), (3, vI x3)] [] := by
  intro S x0 x1 x2 x3 hd
  unfold n_X8_init at hd
  refine g_aload_n C dX8_init_0 rfl 0 rfl ?_
  obtain ⟨hg, hd⟩ := gd_some hd
  refine g_objInit C q1710 q149 q150 (by decide) dX8_init_1 hg (Nat.le_of_ble_eq_true rfl) ?_
  refine g_aload_n C dX8_init_4 rfl 0 rfl ?_
  refine g_new C gk_J2 (fun j hj => gdf_J2 j hj) q1711 q152 q98 dX8_init_5 hd (fun q1 S2 hd => ?_)
  refine g_dup C dX8_init_8 rfl ?_
  obtain ⟨hg, hd⟩ := gd_some hd
  obtain ⟨_, S3, hc, hd⟩ := bn_some hd
  refine g_cI_n (n := 0) C q1712 q154 q98 q155 rfl (by decide +kernel) (by decide) (by decide) dX8_init_9 (As := []) (rest := [vR q1, vR x0]) rfl rfl (Nat.le_of_ble_eq_true rfl) hg (mh_J2_init E hc) ?_
  obtain ⟨S5, hS5, hd⟩ := Option.bind_eq_some_iff.mp hd
  refine g_putF C gk_X8 (k := 3) (by decide) q1733 rfl rfl hnm rfl dX8_init_12 (fit_ref _ (Or.inl ⟨_, rfl⟩)).1 (fit_ref _ (Or.inl ⟨_, rfl⟩)).2 hS5 ?_
  refine g_aload_n C dX8_init_15 rfl 0 rfl ?_
  refine g_aload_n C dX8_init_16 rfl 1 rfl ?_
  obtain ⟨S6, hS6, hd⟩ := Option.bind_eq_some_iff.mp hd
  refine g_putF C gk_X8 (k := 0) (by decide) q1730 rfl rfl hnm rfl dX8_init_17 (fit_ref _ (Or.inl ⟨_, rfl⟩)).1 (fit_ref _ (Or.inl ⟨_, rfl⟩)).2 hS6 ?_
  refine g_aload_n C dX8_init_20 rfl 0 rfl ?_
  refine g_iload_n C dX8_init_21 rfl 2 rfl ?_
  obtain ⟨S7, hS7, hd⟩ := Option.bind_eq_some_iff.mp hd
  refine g_putF C gk_X8 (k := 1) (by decide) q1731 rfl rfl hnm rfl dX8_init_22 (gfit_ok (pI_v hS7).1).1 (gfit_ok (pI_v hS7).1).2 (pI_v hS7).2 ?_
  refine g_aload_n C dX8_init_25 rfl 0 rfl ?_
  refine g_iload_n C dX8_init_26 rfl 3 rfl ?_
  obtain ⟨S8, hS8, hd⟩ := Option.bind_eq_some_iff.mp hd
  refine g_putF C gk_X8 (k := 2) (by decide) q1732 rfl rfl hnm rfl dX8_init_27 (gfit_ok (pI_v hS8).1).1 (gfit_ok (pI_v hS8).1).2 (pI_v hS8).2 ?_
  refine g_aload_n C dX8_init_30 rfl 0 rfl ?_
  refine g_iconst (v := 0) C dX8_init_31 (by decide) ?_
  obtain ⟨hg, hd⟩ := gd_some hd
  obtain ⟨v10, S9, hc, hd⟩ := bn_some hd
  refine g_cV_v (n := 1) C (gk_X8).1 q1713 q1715 qs40 q140 q1716 (by decide +kernel) (by decide) (by decide) dX8_init_32 (As := [vI (0 : Int32)]) (rest := []) rfl rfl (Nat.le_of_ble_eq_true rfl) hg (m_X8_take E 25 _ _ _ _ _ hc) ?_
  refine g_pop C dX8_init_35 rfl ?_
  exact g_vret C Q hd dX8_init_36
theorem m_X8_init {Γ : GG} {HI : St → Heap → Prop} {l : Launch} (E : EH Γ HI l) {S : St} {a0 : Option Nat} {a1 : Option Nat} {a2 : Int32} {a3 : Int32} {r : Unit} {S1 : St} (h : n_X8_init S a0 a1 a2 a3 = some (r, S1)) : MS Γ HI l yX8_init cX8_init 4 none 35 S [vR a0, vR a1, vI a2, vI a3] (.inl none) S1 := by
  refine MS_of E.ntr E.hx (by decide +kernel) rfl (Nat.le_of_ble_eq_true rfl) fun K e1 e2 e3 e4 hnm C Q => ?_
  subst e1; subst e2; subst e3
  exact w_X8_init_b0m C E Q (by exact hnm) S a0 a1 a2 a3 h

def n_X7_init (S : St) (x0 : Option Nat) (x1 : Option Nat) : Option (Unit × St) :=
  gd (x0).isSome <|
  nwB S (cO 8 [vI 0, vR none, vI 0]) 3 fun q1 S2 =>
  gd (q1).isSome <|
  bn (h_J2_init S2 q1) fun _ S3 =>
  (pR S3 x0 5 4 q1).bind fun S5 =>
  (pR S5 x0 5 0 x1).bind fun S6 =>
  some ((), S6)
theorem w_X7_init_b0m {K : KT} {r : Unit} {S1 : St} (C : GC K RX7 cX7_init 2 5 []) (E : EH (kΓ K) (kHI K) (kl K)) (Q : GQ K none (.inl none) S1) (hnm : kLv K → (kme K).name = "<init>") : ∀ (S : St) (x0 : Option Nat) (x1 : Option Nat), n_X7_init S x0 x1 = some (r, S1) → G K 2 S 0 [(0, vR x0), (1, vR x1)] [] := by
  intro S x0 x1 hd
  unfold n_X7_init at hd
  refine g_aload_n C dX7_init_0 rfl 0 rfl ?_
  obtain ⟨hg, hd⟩ := gd_some hd
  refine g_objInit C q1681 q149 q150 (by decide) dX7_init_1 hg (Nat.le_of_ble_eq_true rfl) ?_
  refine g_aload_n C dX7_init_4 rfl 0 rfl ?_
  refine g_new C gk_J2 (fun j hj => gdf_J2 j hj) q1682 q152 q98 dX7_init_5 hd (fun q1 S2 hd => ?_)
  refine g_dup C dX7_init_8 rfl ?_
  obtain ⟨hg, hd⟩ := gd_some hd
  obtain ⟨_, S3, hc, hd⟩ := bn_some hd
  refine g_cI_n (n := 0) C q1683 q154 q98 q155 rfl (by decide +kernel) (by decide) (by decide) dX7_init_9 (As := []) (rest := [vR q1, vR x0]) rfl rfl (Nat.le_of_ble_eq_true rfl) hg (mh_J2_init E hc) ?_
  obtain ⟨S5, hS5, hd⟩ := Option.bind_eq_some_iff.mp hd
  refine g_put C gk_X7 (k := 4) (by decide) q1689 (Or.inl rfl) rfl dX7_init_12 (fit_ref _ (Or.inl ⟨_, rfl⟩)).1 (fit_ref _ (Or.inl ⟨_, rfl⟩)).2 hS5 ?_
  refine g_aload_n C dX7_init_15 rfl 0 rfl ?_
  refine g_aload_n C dX7_init_16 rfl 1 rfl ?_
  obtain ⟨S6, hS6, hd⟩ := Option.bind_eq_some_iff.mp hd
  refine g_putF C gk_X7 (k := 0) (by decide) q1684 rfl rfl hnm rfl dX7_init_17 (fit_ref _ (Or.inl ⟨_, rfl⟩)).1 (fit_ref _ (Or.inl ⟨_, rfl⟩)).2 hS6 ?_
  exact g_vret C Q hd dX7_init_20
theorem m_X7_init {Γ : GG} {HI : St → Heap → Prop} {l : Launch} (E : EH Γ HI l) {S : St} {a0 : Option Nat} {a1 : Option Nat} {r : Unit} {S1 : St} (h : n_X7_init S a0 a1 = some (r, S1)) : MS Γ HI l yX7_init cX7_init 2 none 5 S [vR a0, vR a1] (.inl none) S1 := by
  refine MS_of E.ntr E.hx (by decide +kernel) rfl (Nat.le_of_ble_eq_true rfl) fun K e1 e2 e3 e4 hnm C Q => ?_
  subst e1; subst e2; subst e3
  exact w_X7_init_b0m C E Q (by exact hnm) S a0 a1 h

def n_X1_look_b201 (k124 : St → Option Nat → Option Nat → Int32 → Option (Unit × St)) (S : St) (x0 : Option Nat) (x1 : Option Nat) (x3 : Int32) : Option (Unit × St) :=
  k124 S x0 x1 (x3 + 1)
def n_X1_look_b124 : Nat → St → Option Nat → Option Nat → Int32 → Option (Unit × St)
  | 0 => fun _ _ _ _ => none
  | n + 1 => fun S x0 x1 x3 =>
    (gR S x0 0 0).bind fun v1 =>
    gd (grc S v1 8) <|
    bn (h_J2_size S v1) fun v3 S2 =>
    if v3 ≤ x3 then
      some ((), S2)
    else
      (gI S2 x1 1 1).bind fun v4 =>
      if v4 = 0 then
        some ((), S2)
      else
        (gR S2 x0 0 0).bind fun v5 =>
        gd (grc S2 v5 8) <|
        bn (h_J2_get S2 v5 x3) fun v7 S6 =>
        gd (gcst S6 v7 1) <|
        (gI S6 v7 1 8).bind fun v8 =>
        if v8 = 0 then
          (gR S6 x0 0 0).bind fun v9 =>
          gd (grc S6 v9 8) <|
          bn (h_J2_get S6 v9 x3) fun v11 S10 =>
          gd (gcst S10 v11 1) <|
          (gR S10 v11 1 2).bind fun v12 =>
          if v12 = x1 then
            (gR S10 x0 0 0).bind fun v13 =>
            gd (grc S10 v13 8) <|
            bn (h_J2_get S10 v13 x3) fun v15 S14 =>
            gd (gcst S14 v15 1) <|
            gd (grc S14 x0 0) <|
            bn (n_X1_add S14 x0 v15 (0 : Int32)) fun _ S16 =>
            n_X1_look_b201 (n_X1_look_b124 n) S16 x0 x1 x3
          else
            n_X1_look_b201 (n_X1_look_b124 n) S10 x0 x1 x3
        else
          n_X1_look_b201 (n_X1_look_b124 n) S6 x0 x1 x3
def n_X1_look_b122 (S : St) (x0 : Option Nat) (x1 : Option Nat) : Option (Unit × St) :=
  n_X1_look_b124 FU S x0 x1 (0 : Int32)
def n_X1_look_b32 (S : St) (x0 : Option Nat) (x1 : Option Nat) (y0 : Option Nat) : Option (Unit × St) :=
  (gR S x0 0 2).bind fun v1 =>
  (gI S x1 1 0).bind fun v2 =>
  (sR S v1 5 v2 y0).bind fun S3 =>
  (gR S3 x1 1 2).bind fun v4 =>
  (pR S3 y0 5 1 v4).bind fun S5 =>
  (gI S5 x1 1 3).bind fun v6 =>
  (pI .char S5 y0 5 2 v6).bind fun S7 =>
  (gI S7 x1 1 1).bind fun v8 =>
  if v8 = 0 then
    (gI S7 y0 5 3).bind fun v9 =>
    (gI S7 x1 1 4).bind fun v10 =>
    if v9 = v10 then
      n_X1_look_b122 S7 x0 x1
    else
      (gI S7 x1 1 4).bind fun v11 =>
      (pI .int S7 y0 5 3 v11).bind fun S12 =>
      nwB S12 (cO 6 [vR none, vI 0, vI 0, vR none, vI 0]) 5 fun q13 S14 =>
      (gR S14 x1 1 5).bind fun v15 =>
      (gI S14 x0 0 10).bind fun v16 =>
      (gI S14 x0 0 11).bind fun v17 =>
      gd (q13).isSome <|
      bn (n_X8_init S14 q13 v15 v16 v17) fun _ S18 =>
      (gR S18 q13 6 3).bind fun v20 =>
      (pR S18 y0 5 4 v20).bind fun S21 =>
      (gR S21 x0 0 5).bind fun v22 =>
      (gI S21 x1 1 0).bind fun v23 =>
      gd (grc S21 v22 10) <|
      bn (h_J5_set S21 v22 v23) fun _ S24 =>
      n_X1_look_b122 S24 x0 x1
  else
    n_X1_look_b122 S7 x0 x1
def n_X1_look (S : St) (x0 : Option Nat) (x1 : Option Nat) : Option (Unit × St) :=
  (gR S x0 0 2).bind fun v1 =>
  (gI S x1 1 0).bind fun v2 =>
  (aR S v1 5 v2).bind fun v3 =>
  if v3 = none then
    nwB S (cO 5 [vR none, vR none, vI 0, vI 0, vR none, vR none]) 6 fun q7 S8 =>
    gd (q7).isSome <|
    bn (n_X7_init S8 q7 x1) fun _ S9 =>
    n_X1_look_b32 S9 x0 x1 q7
  else
    (gR S x0 0 2).bind fun v4 =>
    (gI S x1 1 0).bind fun v5 =>
    (aR S v4 5 v5).bind fun v6 =>
    n_X1_look_b32 S x0 x1 v6
theorem w_X1_look_b201 {K : KT} {r : Unit} {S1 : St} (C : GC K RX1 cX1_look 4 36 []) (E : EH (kΓ K) (kHI K) (kl K)) (Q : GQ K none (.inl none) S1) {k124 : St → Option Nat → Option Nat → Int32 → Option (Unit × St)} (h124 : ∀ (S : St) (x0 : Option Nat) (x1 : Option Nat) (x3 : Int32), k124 S x0 x1 x3 = some (r, S1) → G K 4 S 124 [(0, vR x0), (1, vR x1), (3, vI x3)] []) : ∀ (S : St) (x0 : Option Nat) (x1 : Option Nat) (x3 : Int32), n_X1_look_b201 k124 S x0 x1 x3 = some (r, S1) → G K 4 S 201 [(0, vR x0), (1, vR x1), (3, vI x3)] [] := by
  intro S x0 x1 x3 hd
  unfold n_X1_look_b201 at hd
  refine g_iinc (v := x3 + 1) (L' := [(3, vI (x3 + 1)), (0, vR x0), (1, vR x1)]) C dX1_look_201 2 rfl rfl (by decide) rfl ?_
  refine g_goto (tgt := 124) C dX1_look_204 (by decide) ?_
  refine g_sub [1, 2, 0] rfl ?_
  exact h124 _ _ _ _ hd
theorem w_X1_look_b124 {K : KT} {r : Unit} {S1 : St} (C : GC K RX1 cX1_look 4 36 []) (E : EH (kΓ K) (kHI K) (kl K)) (Q : GQ K none (.inl none) S1) : ∀ (n : Nat) (S : St) (x0 : Option Nat) (x1 : Option Nat) (x3 : Int32), n_X1_look_b124 n S x0 x1 x3 = some (r, S1) → G K 4 S 124 [(0, vR x0), (1, vR x1), (3, vI x3)] [] := by
  intro n
  induction n with
  | zero => intro S x0 x1 x3 hd; cases hd
  | succ n ih =>
    intro S x0 x1 x3 hd
    unfold n_X1_look_b124 at hd
    refine g_iload_n C dX1_look_124 rfl 2 rfl ?_
    refine g_aload_n C dX1_look_125 rfl 0 rfl ?_
    obtain ⟨v1, hv1, hd⟩ := Option.bind_eq_some_iff.mp hd
    refine g_fld C gk_X1 (k := 0) (by decide) q385 (Or.inl rfl) dX1_look_126 (gR_v hv1) ?_
    obtain ⟨hg, hd⟩ := gd_some hd
    obtain ⟨v3, S2, hc, hd⟩ := bn_some hd
    refine g_cF_v (n := 0) C (gk_J2).1 q427 q432 q430 q98 q434 (List.mem_of_getElem? (i := 1) rfl) (by decide +kernel) (by decide) (by decide) dX1_look_129 (As := []) (rest := [vI x3]) rfl rfl (Nat.le_of_ble_eq_true rfl) hg (mh_J2_size E hc) ?_
    refine g_icmp_ge (tgt := 207) C dX1_look_134 (by decide) hd (fun hd => ?_) (fun hd => ?_)
    · exact g_vret C Q hd dX1_look_207
    · refine g_aload_n C dX1_look_137 rfl 1 rfl ?_
      obtain ⟨v4, hv4, hd⟩ := Option.bind_eq_some_iff.mp hd
      refine g_fldN C gk_X2 (k := 1) (by decide) q242 rfl dX1_look_138 (gI_v hv4) ?_
      refine g_if_eq (tgt := 207) C dX1_look_141 (by decide) hd (fun hd => ?_) (fun hd => ?_)
      · exact g_vret C Q hd dX1_look_207
      · refine g_aload_n C dX1_look_144 rfl 0 rfl ?_
        obtain ⟨v5, hv5, hd⟩ := Option.bind_eq_some_iff.mp hd
        refine g_fld C gk_X1 (k := 0) (by decide) q385 (Or.inl rfl) dX1_look_145 (gR_v hv5) ?_
        refine g_iload_n C dX1_look_148 rfl 2 rfl ?_
        obtain ⟨hg, hd⟩ := gd_some hd
        obtain ⟨v7, S6, hc, hd⟩ := bn_some hd
        refine g_cF_v (n := 1) C (gk_J2).1 q441 q446 q444 q98 q448 (List.mem_of_getElem? (i := 2) rfl) (by decide +kernel) (by decide) (by decide) dX1_look_149 (As := [vI x3]) (rest := []) rfl rfl (Nat.le_of_ble_eq_true rfl) hg (mh_J2_get E hc) ?_
        refine g_cast C (gk_X2).1 q231 dX1_look_154 hd (fun hd => ?_)
        obtain ⟨v8, hv8, hd⟩ := Option.bind_eq_some_iff.mp hd
        refine g_fldN C gk_X2 (k := 8) (by decide) q253 rfl dX1_look_157 (gI_v hv8) ?_
        refine g_if_ne (tgt := 201) C dX1_look_160 (by decide) hd (fun hd => ?_) (fun hd => ?_)
        · refine g_sub [0, 1, 2] rfl ?_
          exact w_X1_look_b201 C E Q ih _ _ _ _ hd
        · refine g_aload_n C dX1_look_163 rfl 0 rfl ?_
          obtain ⟨v9, hv9, hd⟩ := Option.bind_eq_some_iff.mp hd
          refine g_fld C gk_X1 (k := 0) (by decide) q385 (Or.inl rfl) dX1_look_164 (gR_v hv9) ?_
          refine g_iload_n C dX1_look_167 rfl 2 rfl ?_
          obtain ⟨hg, hd⟩ := gd_some hd
          obtain ⟨v11, S10, hc, hd⟩ := bn_some hd
          refine g_cF_v (n := 1) C (gk_J2).1 q441 q446 q444 q98 q448 (List.mem_of_getElem? (i := 2) rfl) (by decide +kernel) (by decide) (by decide) dX1_look_168 (As := [vI x3]) (rest := []) rfl rfl (Nat.le_of_ble_eq_true rfl) hg (mh_J2_get E hc) ?_
          refine g_cast C (gk_X2).1 q231 dX1_look_173 hd (fun hd => ?_)
          obtain ⟨v12, hv12, hd⟩ := Option.bind_eq_some_iff.mp hd
          refine g_fldN C gk_X2 (k := 2) (by decide) q244 rfl dX1_look_176 (gR_v hv12) ?_
          refine g_aload_n C dX1_look_179 rfl 1 rfl ?_
          refine g_acmp_ne (tgt := 201) C dX1_look_180 (by decide) hd (fun hd => ?_) (fun hd => ?_)
          · refine g_sub [0, 1, 2] rfl ?_
            exact w_X1_look_b201 C E Q ih _ _ _ _ hd
          · refine g_aload_n C dX1_look_183 rfl 0 rfl ?_
            refine g_aload_n C dX1_look_184 rfl 0 rfl ?_
            obtain ⟨v13, hv13, hd⟩ := Option.bind_eq_some_iff.mp hd
            refine g_fld C gk_X1 (k := 0) (by decide) q385 (Or.inl rfl) dX1_look_185 (gR_v hv13) ?_
            refine g_iload_n C dX1_look_188 rfl 2 rfl ?_
            obtain ⟨hg, hd⟩ := gd_some hd
            obtain ⟨v15, S14, hc, hd⟩ := bn_some hd
            refine g_cF_v (n := 1) C (gk_J2).1 q441 q446 q444 q98 q448 (List.mem_of_getElem? (i := 2) rfl) (by decide +kernel) (by decide) (by decide) dX1_look_189 (As := [vI x3]) (rest := [vR x0]) rfl rfl (Nat.le_of_ble_eq_true rfl) hg (mh_J2_get E hc) ?_
            refine g_cast C (gk_X2).1 q231 dX1_look_194 hd (fun hd => ?_)
            refine g_iconst (v := 0) C dX1_look_197 (by decide) ?_
            obtain ⟨hg, hd⟩ := gd_some hd
            obtain ⟨_, S16, hc, hd⟩ := bn_some hd
            refine g_cV_n (n := 2) C (gk_X1).1 q1365 q1367 qs24 q95 q1368 (by decide +kernel) (by decide) (by decide) dX1_look_198 (As := [vR v15, vI (0 : Int32)]) (rest := []) rfl rfl (Nat.le_of_ble_eq_true rfl) hg (m_X1_add E hc) ?_
            refine g_sub [0, 1, 2] rfl ?_
            exact w_X1_look_b201 C E Q ih _ _ _ _ hd
theorem w_X1_look_b122 {K : KT} {r : Unit} {S1 : St} (C : GC K RX1 cX1_look 4 36 []) (E : EH (kΓ K) (kHI K) (kl K)) (Q : GQ K none (.inl none) S1) : ∀ (S : St) (x0 : Option Nat) (x1 : Option Nat), n_X1_look_b122 S x0 x1 = some (r, S1) → G K 4 S 122 [(0, vR x0), (1, vR x1)] [] := by
  intro S x0 x1 hd
  unfold n_X1_look_b122 at hd
  refine g_iconst (v := 0) C dX1_look_122 (by decide) ?_
  refine g_istore_n (L' := [(3, vI (0 : Int32)), (0, vR x0), (1, vR x1)]) C dX1_look_123 rfl (by decide) rfl ?_
  refine g_sub [1, 2, 0] rfl ?_
  exact w_X1_look_b124 C E Q FU _ _ _ _ hd
theorem w_X1_look_b32 {K : KT} {r : Unit} {S1 : St} (C : GC K RX1 cX1_look 4 36 []) (E : EH (kΓ K) (kHI K) (kl K)) (Q : GQ K none (.inl none) S1) : ∀ (S : St) (x0 : Option Nat) (x1 : Option Nat) (y0 : Option Nat), n_X1_look_b32 S x0 x1 y0 = some (r, S1) → G K 4 S 32 [(0, vR x0), (1, vR x1)] [vR y0] := by
  intro S x0 x1 y0 hd
  unfold n_X1_look_b32 at hd
  refine g_astore_n (L' := [(2, vR y0), (0, vR x0), (1, vR x1)]) C dX1_look_32 rfl (by decide) rfl ?_
  refine g_aload_n C dX1_look_33 rfl 1 rfl ?_
  obtain ⟨v1, hv1, hd⟩ := Option.bind_eq_some_iff.mp hd
  refine g_fld C gk_X1 (k := 2) (by decide) q387 (Or.inl rfl) dX1_look_34 (gR_v hv1) ?_
  refine g_aload_n C dX1_look_37 rfl 2 rfl ?_
  obtain ⟨v2, hv2, hd⟩ := Option.bind_eq_some_iff.mp hd
  refine g_fldN C gk_X2 (k := 0) (by decide) q240 rfl dX1_look_38 (gI_v hv2) ?_
  refine g_aload_n C dX1_look_41 rfl 0 rfl ?_
  obtain ⟨S3, hS3, hd⟩ := Option.bind_eq_some_iff.mp hd
  refine g_aast C 5 (by decide) dX1_look_42 hS3 ?_
  refine g_aload_n C dX1_look_43 rfl 0 rfl ?_
  refine g_aload_n C dX1_look_44 rfl 2 rfl ?_
  obtain ⟨v4, hv4, hd⟩ := Option.bind_eq_some_iff.mp hd
  refine g_fldN C gk_X2 (k := 2) (by decide) q244 rfl dX1_look_45 (gR_v hv4) ?_
  obtain ⟨S5, hS5, hd⟩ := Option.bind_eq_some_iff.mp hd
  refine g_putN C gk_X7 (k := 1) (by decide) q1686 rfl rfl dX1_look_48 (fit_ref _ (Or.inl ⟨_, rfl⟩)).1 (fit_ref _ (Or.inl ⟨_, rfl⟩)).2 hS5 ?_
  refine g_aload_n C dX1_look_51 rfl 0 rfl ?_
  refine g_aload_n C dX1_look_52 rfl 2 rfl ?_
  obtain ⟨v6, hv6, hd⟩ := Option.bind_eq_some_iff.mp hd
  refine g_fldN C gk_X2 (k := 3) (by decide) q245 rfl dX1_look_53 (gI_v hv6) ?_
  obtain ⟨S7, hS7, hd⟩ := Option.bind_eq_some_iff.mp hd
  refine g_putN C gk_X7 (k := 2) (by decide) q1687 rfl rfl dX1_look_56 (gfit_ok (pI_v hS7).1).1 (gfit_ok (pI_v hS7).1).2 (pI_v hS7).2 ?_
  refine g_aload_n C dX1_look_59 rfl 2 rfl ?_
  obtain ⟨v8, hv8, hd⟩ := Option.bind_eq_some_iff.mp hd
  refine g_fldN C gk_X2 (k := 1) (by decide) q242 rfl dX1_look_60 (gI_v hv8) ?_
  refine g_if_ne (tgt := 122) C dX1_look_63 (by decide) hd (fun hd => ?_) (fun hd => ?_)
  · refine g_sub [1, 2] rfl ?_
    exact w_X1_look_b122 C E Q _ _ _ hd
  · refine g_aload_n C dX1_look_66 rfl 0 rfl ?_
    obtain ⟨v9, hv9, hd⟩ := Option.bind_eq_some_iff.mp hd
    refine g_fldN C gk_X7 (k := 3) (by decide) q1688 rfl dX1_look_67 (gI_v hv9) ?_
    refine g_aload_n C dX1_look_70 rfl 2 rfl ?_
    obtain ⟨v10, hv10, hd⟩ := Option.bind_eq_some_iff.mp hd
    refine g_fldN C gk_X2 (k := 4) (by decide) q247 rfl dX1_look_71 (gI_v hv10) ?_
    refine g_icmp_eq (tgt := 122) C dX1_look_74 (by decide) hd (fun hd => ?_) (fun hd => ?_)
    · refine g_sub [1, 2] rfl ?_
      exact w_X1_look_b122 C E Q _ _ _ hd
    · refine g_aload_n C dX1_look_77 rfl 0 rfl ?_
      refine g_aload_n C dX1_look_78 rfl 2 rfl ?_
      obtain ⟨v11, hv11, hd⟩ := Option.bind_eq_some_iff.mp hd
      refine g_fldN C gk_X2 (k := 4) (by decide) q247 rfl dX1_look_79 (gI_v hv11) ?_
      obtain ⟨S12, hS12, hd⟩ := Option.bind_eq_some_iff.mp hd
      refine g_putN C gk_X7 (k := 3) (by decide) q1688 rfl rfl dX1_look_82 (gfit_ok (pI_v hS12).1).1 (gfit_ok (pI_v hS12).1).2 (pI_v hS12).2 ?_
      refine g_aload_n C dX1_look_85 rfl 0 rfl ?_
      refine g_new C gk_X8 (fun j hj => gdf_X8 j hj) q1705 q1706 q140 dX1_look_86 hd (fun q13 S14 hd => ?_)
      refine g_dup C dX1_look_89 rfl ?_
      refine g_aload_n C dX1_look_90 rfl 2 rfl ?_
      obtain ⟨v15, hv15, hd⟩ := Option.bind_eq_some_iff.mp hd
      refine g_fldN C gk_X2 (k := 5) (by decide) q249 rfl dX1_look_91 (gR_v hv15) ?_
      refine g_aload_n C dX1_look_94 rfl 1 rfl ?_
      obtain ⟨v16, hv16, hd⟩ := Option.bind_eq_some_iff.mp hd
      refine g_fld C gk_X1 (k := 10) (by decide) q395 (Or.inl rfl) dX1_look_95 (gI_v hv16) ?_
      refine g_aload_n C dX1_look_98 rfl 1 rfl ?_
      obtain ⟨v17, hv17, hd⟩ := Option.bind_eq_some_iff.mp hd
      refine g_fld C gk_X1 (k := 11) (by decide) q396 (Or.inl rfl) dX1_look_99 (gI_v hv17) ?_
      obtain ⟨hg, hd⟩ := gd_some hd
      obtain ⟨_, S18, hc, hd⟩ := bn_some hd
      refine g_cI_n (n := 3) C q1707 q1708 q140 q1709 rfl (by decide +kernel) (by decide) (by decide) dX1_look_102 (As := [vR v15, vI v16, vI v17]) (rest := [vR q13, vR y0]) rfl rfl (Nat.le_of_ble_eq_true rfl) hg (m_X8_init E hc) ?_
      obtain ⟨v20, hv20, hd⟩ := Option.bind_eq_some_iff.mp hd
      refine g_fldN C gk_X8 (k := 3) (by decide) q1734 rfl dX1_look_105 (gR_v hv20) ?_
      obtain ⟨S21, hS21, hd⟩ := Option.bind_eq_some_iff.mp hd
      refine g_putN C gk_X7 (k := 4) (by decide) q1690 rfl rfl dX1_look_108 (fit_ref _ (Or.inl ⟨_, rfl⟩)).1 (fit_ref _ (Or.inl ⟨_, rfl⟩)).2 hS21 ?_
      refine g_aload_n C dX1_look_111 rfl 1 rfl ?_
      obtain ⟨v22, hv22, hd⟩ := Option.bind_eq_some_iff.mp hd
      refine g_fld C gk_X1 (k := 5) (by decide) q390 (Or.inl rfl) dX1_look_112 (gR_v hv22) ?_
      refine g_aload_n C dX1_look_115 rfl 2 rfl ?_
      obtain ⟨v23, hv23, hd⟩ := Option.bind_eq_some_iff.mp hd
      refine g_fldN C gk_X2 (k := 0) (by decide) q240 rfl dX1_look_116 (gI_v hv23) ?_
      obtain ⟨hg, hd⟩ := gd_some hd
      obtain ⟨_, S24, hc, hd⟩ := bn_some hd
      refine g_cV_n (n := 1) C (gk_J5).1 q1747 q1748 q1749 q101 q1750 (by decide +kernel) (by decide) (by decide) dX1_look_119 (As := [vI v23]) (rest := []) rfl rfl (Nat.le_of_ble_eq_true rfl) hg (mh_J5_set E hc) ?_
      refine g_sub [1, 2] rfl ?_
      exact w_X1_look_b122 C E Q _ _ _ hd
theorem w_X1_look_b0m {K : KT} {r : Unit} {S1 : St} (C : GC K RX1 cX1_look 4 36 []) (E : EH (kΓ K) (kHI K) (kl K)) (Q : GQ K none (.inl none) S1) : ∀ (S : St) (x0 : Option Nat) (x1 : Option Nat), n_X1_look S x0 x1 = some (r, S1) → G K 4 S 0 [(0, vR x0), (1, vR x1)] [] := by
  intro S x0 x1 hd
  unfold n_X1_look at hd
  refine g_aload_n C dX1_look_0 rfl 0 rfl ?_
  obtain ⟨v1, hv1, hd⟩ := Option.bind_eq_some_iff.mp hd
  refine g_fld C gk_X1 (k := 2) (by decide) q387 (Or.inl rfl) dX1_look_1 (gR_v hv1) ?_
  refine g_aload_n C dX1_look_4 rfl 1 rfl ?_
  obtain ⟨v2, hv2, hd⟩ := Option.bind_eq_some_iff.mp hd
  refine g_fldN C gk_X2 (k := 0) (by decide) q240 rfl dX1_look_5 (gI_v hv2) ?_
  obtain ⟨v3, hv3, hd⟩ := Option.bind_eq_some_iff.mp hd
  refine g_aald C 5 (by decide) dX1_look_8 hv3 ?_
  refine g_ifnonnull (tgt := 23) C dX1_look_9 (by decide) hd (fun hd => ?_) (fun hd => ?_)
  · refine g_aload_n C dX1_look_23 rfl 0 rfl ?_
    obtain ⟨v4, hv4, hd⟩ := Option.bind_eq_some_iff.mp hd
    refine g_fld C gk_X1 (k := 2) (by decide) q387 (Or.inl rfl) dX1_look_24 (gR_v hv4) ?_
    refine g_aload_n C dX1_look_27 rfl 1 rfl ?_
    obtain ⟨v5, hv5, hd⟩ := Option.bind_eq_some_iff.mp hd
    refine g_fldN C gk_X2 (k := 0) (by decide) q240 rfl dX1_look_28 (gI_v hv5) ?_
    obtain ⟨v6, hv6, hd⟩ := Option.bind_eq_some_iff.mp hd
    refine g_aald C 5 (by decide) dX1_look_31 hv6 ?_
    refine g_sub [0, 1] rfl ?_
    exact w_X1_look_b32 C E Q _ _ _ _ hd
  · refine g_new C gk_X7 (fun j hj => gdf_X7 j hj) q205 q1677 q139 dX1_look_12 hd (fun q7 S8 hd => ?_)
    refine g_dup C dX1_look_15 rfl ?_
    refine g_aload_n C dX1_look_16 rfl 1 rfl ?_
    obtain ⟨hg, hd⟩ := gd_some hd
    obtain ⟨_, S9, hc, hd⟩ := bn_some hd
    refine g_cI_n (n := 1) C q1678 q1679 q139 q1680 rfl (by decide +kernel) (by decide) (by decide) dX1_look_17 (As := [vR x1]) (rest := [vR q7]) rfl rfl (Nat.le_of_ble_eq_true rfl) hg (m_X7_init E hc) ?_
    refine g_goto (tgt := 32) C dX1_look_20 (by decide) ?_
    refine g_sub [0, 1] rfl ?_
    exact w_X1_look_b32 C E Q _ _ _ _ hd
theorem m_X1_look {Γ : GG} {HI : St → Heap → Prop} {l : Launch} (E : EH Γ HI l) {S : St} {a0 : Option Nat} {a1 : Option Nat} {r : Unit} {S1 : St} (h : n_X1_look S a0 a1 = some (r, S1)) : MS Γ HI l yX1_look cX1_look 4 none 36 S [vR a0, vR a1] (.inl none) S1 := by
  refine MS_of E.ntr E.hx (by decide +kernel) rfl (Nat.le_of_ble_eq_true rfl) fun K e1 e2 e3 e4 hnm C Q => ?_
  subst e1; subst e2; subst e3
  exact w_X1_look_b0m C E Q S a0 a1 h

def n_X1_forget (S : St) (x0 : Option Nat) (x1 : Option Nat) : Option (Unit × St) :=
  (gR S x0 0 2).bind fun v1 =>
  (gR S x1 5 0).bind fun v2 =>
  (gI S v2 1 0).bind fun v3 =>
  (sR S v1 5 v3 none).bind fun S4 =>
  bn (n_X1_bury S4 x1) fun _ S5 =>
  some ((), S5)
theorem w_X1_forget_b0m {K : KT} {r : Unit} {S1 : St} (C : GC K RX1 cX1_forget 2 5 []) (E : EH (kΓ K) (kHI K) (kl K)) (Q : GQ K none (.inl none) S1) : ∀ (S : St) (x0 : Option Nat) (x1 : Option Nat), n_X1_forget S x0 x1 = some (r, S1) → G K 2 S 0 [(0, vR x0), (1, vR x1)] [] := by
  intro S x0 x1 hd
  unfold n_X1_forget at hd
  refine g_aload_n C dX1_forget_0 rfl 0 rfl ?_
  obtain ⟨v1, hv1, hd⟩ := Option.bind_eq_some_iff.mp hd
  refine g_fld C gk_X1 (k := 2) (by decide) q387 (Or.inl rfl) dX1_forget_1 (gR_v hv1) ?_
  refine g_aload_n C dX1_forget_4 rfl 1 rfl ?_
  obtain ⟨v2, hv2, hd⟩ := Option.bind_eq_some_iff.mp hd
  refine g_fldN C gk_X7 (k := 0) (by decide) q1685 rfl dX1_forget_5 (gR_v hv2) ?_
  obtain ⟨v3, hv3, hd⟩ := Option.bind_eq_some_iff.mp hd
  refine g_fldN C gk_X2 (k := 0) (by decide) q240 rfl dX1_forget_8 (gI_v hv3) ?_
  refine g_null C dX1_forget_11 ?_
  obtain ⟨S4, hS4, hd⟩ := Option.bind_eq_some_iff.mp hd
  refine g_aast C 5 (by decide) dX1_forget_12 hS4 ?_
  refine g_aload_n C dX1_forget_13 rfl 1 rfl ?_
  obtain ⟨_, S5, hc, hd⟩ := bn_some hd
  refine g_cS_n (n := 1) C q1657 q1658 q95 q1659 (by decide +kernel) (by decide) (by decide) dX1_forget_14 (As := [vR x1]) (rest := []) rfl rfl (Nat.le_of_ble_eq_true rfl) (m_X1_bury E hc) ?_
  exact g_vret C Q hd dX1_forget_17
theorem m_X1_forget {Γ : GG} {HI : St → Heap → Prop} {l : Launch} (E : EH Γ HI l) {S : St} {a0 : Option Nat} {a1 : Option Nat} {r : Unit} {S1 : St} (h : n_X1_forget S a0 a1 = some (r, S1)) : MS Γ HI l yX1_forget cX1_forget 2 none 5 S [vR a0, vR a1] (.inl none) S1 := by
  refine MS_of E.ntr E.hx (by decide +kernel) rfl (Nat.le_of_ble_eq_true rfl) fun K e1 e2 e3 e4 hnm C Q => ?_
  subst e1; subst e2; subst e3
  exact w_X1_forget_b0m C E Q S a0 a1 h

def n_X1_isRoot_b50 (k12 : St → Option Nat → Int32 → Option Nat → Option (Int32 × St)) (S : St) (x1 : Option Nat) (x3 : Option Nat) (y0 : Int32) : Option (Int32 × St) :=
  k12 S x1 y0 x3
def n_X1_isRoot_b45 (k12 : St → Option Nat → Int32 → Option Nat → Option (Int32 × St)) (S : St) (x1 : Option Nat) (x3 : Option Nat) : Option (Int32 × St) :=
  n_X1_isRoot_b50 k12 S x1 x3 (1 : Int32)
def n_X1_isRoot_b12 : Nat → St → Option Nat → Int32 → Option Nat → Option (Int32 × St)
  | 0 => fun _ _ _ _ => none
  | n + 1 => fun S x1 x2 x3 =>
    gd (grc S x3 13) <|
    bn (h_J29_hasNext S x3) fun v2 S1 =>
    if v2 = 0 then
      rtI id (Jvm.ClassFile.FieldType.boolean) x2 S1
    else
      gd (grc S1 x3 13) <|
      bn (h_J29_next S1 x3) fun v4 S3 =>
      gd (gcst S3 v4 4) <|
      if x2 = 0 then
        (gR S3 v4 4 0).bind fun v5 =>
        if v5 = x1 then
          n_X1_isRoot_b45 (n_X1_isRoot_b12 n) S3 x1 x3
        else
          n_X1_isRoot_b50 (n_X1_isRoot_b12 n) S3 x1 x3 (0 : Int32)
      else
        n_X1_isRoot_b45 (n_X1_isRoot_b12 n) S3 x1 x3
def n_X1_isRoot (S : St) (x0 : Option Nat) (x1 : Option Nat) : Option (Int32 × St) :=
  (gR S x0 0 1).bind fun v1 =>
  gd (grc S v1 9) <|
  bn (h_J3_iterator S v1) fun v3 S2 =>
  n_X1_isRoot_b12 FU S2 x1 (0 : Int32) v3
theorem w_X1_isRoot_b50 {K : KT} {r : Int32} {S1 : St} (C : GC K RX1 cX1_isRoot 5 7 []) (E : EH (kΓ K) (kHI K) (kl K)) (Q : GQ K (some (Jvm.ClassFile.FieldType.boolean)) (.inl (some (vI r))) S1) {k12 : St → Option Nat → Int32 → Option Nat → Option (Int32 × St)} (h12 : ∀ (S : St) (x1 : Option Nat) (x2 : Int32) (x3 : Option Nat), k12 S x1 x2 x3 = some (r, S1) → G K 5 S 12 [(1, vR x1), (2, vI x2), (3, vR x3)] []) : ∀ (S : St) (x1 : Option Nat) (x3 : Option Nat) (y0 : Int32), n_X1_isRoot_b50 k12 S x1 x3 y0 = some (r, S1) → G K 5 S 50 [(1, vR x1), (3, vR x3)] [vI y0] := by
  intro S x1 x3 y0 hd
  unfold n_X1_isRoot_b50 at hd
  refine g_istore_n (L' := [(2, vI y0), (1, vR x1), (3, vR x3)]) C dX1_isRoot_50 rfl (by decide) rfl ?_
  refine g_goto (tgt := 12) C dX1_isRoot_51 (by decide) ?_
  refine g_sub [1, 0, 2] rfl ?_
  exact h12 _ _ _ _ hd
theorem w_X1_isRoot_b45 {K : KT} {r : Int32} {S1 : St} (C : GC K RX1 cX1_isRoot 5 7 []) (E : EH (kΓ K) (kHI K) (kl K)) (Q : GQ K (some (Jvm.ClassFile.FieldType.boolean)) (.inl (some (vI r))) S1) {k12 : St → Option Nat → Int32 → Option Nat → Option (Int32 × St)} (h12 : ∀ (S : St) (x1 : Option Nat) (x2 : Int32) (x3 : Option Nat), k12 S x1 x2 x3 = some (r, S1) → G K 5 S 12 [(1, vR x1), (2, vI x2), (3, vR x3)] []) : ∀ (S : St) (x1 : Option Nat) (x3 : Option Nat), n_X1_isRoot_b45 k12 S x1 x3 = some (r, S1) → G K 5 S 45 [(1, vR x1), (3, vR x3)] [] := by
  intro S x1 x3 hd
  unfold n_X1_isRoot_b45 at hd
  refine g_iconst (v := 1) C dX1_isRoot_45 (by decide) ?_
  refine g_goto (tgt := 50) C dX1_isRoot_46 (by decide) ?_
  refine g_sub [0, 1] rfl ?_
  exact w_X1_isRoot_b50 C E Q h12 _ _ _ _ hd
theorem w_X1_isRoot_b12 {K : KT} {r : Int32} {S1 : St} (C : GC K RX1 cX1_isRoot 5 7 []) (E : EH (kΓ K) (kHI K) (kl K)) (Q : GQ K (some (Jvm.ClassFile.FieldType.boolean)) (.inl (some (vI r))) S1) : ∀ (n : Nat) (S : St) (x1 : Option Nat) (x2 : Int32) (x3 : Option Nat), n_X1_isRoot_b12 n S x1 x2 x3 = some (r, S1) → G K 5 S 12 [(1, vR x1), (2, vI x2), (3, vR x3)] [] := by
  intro n
  induction n with
  | zero => intro S x1 x2 x3 hd; cases hd
  | succ n ih =>
    intro S x1 x2 x3 hd
    unfold n_X1_isRoot_b12 at hd
    refine g_aload_n C dX1_isRoot_12 rfl 2 rfl ?_
    obtain ⟨hg, hd⟩ := gd_some hd
    obtain ⟨v2, S1, hc, hd⟩ := bn_some hd
    refine g_cF_v (n := 0) C (gk_J29).1 q925 q951 q949 q129 q953 (List.mem_of_getElem? (i := 12) rfl) (by decide +kernel) (by decide) (by decide) dX1_isRoot_13 (As := []) (rest := []) rfl rfl (Nat.le_of_ble_eq_true rfl) hg (mh_J29_hasNext E hc) ?_
    refine g_if_eq (tgt := 54) C dX1_isRoot_18 (by decide) hd (fun hd => ?_) (fun hd => ?_)
    · refine g_iload_n C dX1_isRoot_54 rfl 1 rfl ?_
      exact g_iret C Q hd dX1_isRoot_55
    · refine g_aload_n C dX1_isRoot_21 rfl 2 rfl ?_
      obtain ⟨hg, hd⟩ := gd_some hd
      obtain ⟨v4, S3, hc, hd⟩ := bn_some hd
      refine g_cF_v (n := 0) C (gk_J29).1 q955 q1047 q1045 q129 q1049 (List.mem_of_getElem? (i := 13) rfl) (by decide +kernel) (by decide) (by decide) dX1_isRoot_22 (As := []) (rest := []) rfl rfl (Nat.le_of_ble_eq_true rfl) hg (mh_J29_next E hc) ?_
      refine g_cast C (gk_X6).1 q1055 dX1_isRoot_27 hd (fun hd => ?_)
      refine g_astore (L' := [(4, vR v4), (1, vR x1), (2, vI x2), (3, vR x3)]) C dX1_isRoot_30 (by decide) rfl ?_
      refine g_iload_n C dX1_isRoot_32 rfl 2 rfl ?_
      refine g_if_ne (tgt := 45) C dX1_isRoot_33 (by decide) hd (fun hd => ?_) (fun hd => ?_)
      · refine g_sub [1, 3] rfl ?_
        exact w_X1_isRoot_b45 C E Q ih _ _ _ hd
      · refine g_aload C dX1_isRoot_36 0 rfl ?_
        obtain ⟨v5, hv5, hd⟩ := Option.bind_eq_some_iff.mp hd
        refine g_fldN C gk_X6 (k := 0) (by decide) q1437 rfl dX1_isRoot_38 (gR_v hv5) ?_
        refine g_aload_n C dX1_isRoot_41 rfl 1 rfl ?_
        refine g_acmp_ne (tgt := 49) C dX1_isRoot_42 (by decide) hd (fun hd => ?_) (fun hd => ?_)
        · refine g_iconst (v := 0) C dX1_isRoot_49 (by decide) ?_
          refine g_sub [1, 3] rfl ?_
          exact w_X1_isRoot_b50 C E Q ih _ _ _ _ hd
        · refine g_sub [1, 3] rfl ?_
          exact w_X1_isRoot_b45 C E Q ih _ _ _ hd
theorem w_X1_isRoot_b0m {K : KT} {r : Int32} {S1 : St} (C : GC K RX1 cX1_isRoot 5 7 []) (E : EH (kΓ K) (kHI K) (kl K)) (Q : GQ K (some (Jvm.ClassFile.FieldType.boolean)) (.inl (some (vI r))) S1) : ∀ (S : St) (x0 : Option Nat) (x1 : Option Nat), n_X1_isRoot S x0 x1 = some (r, S1) → G K 5 S 0 [(0, vR x0), (1, vR x1)] [] := by
  intro S x0 x1 hd
  unfold n_X1_isRoot at hd
  refine g_iconst (v := 0) C dX1_isRoot_0 (by decide) ?_
  refine g_istore_n (L' := [(2, vI (0 : Int32)), (0, vR x0), (1, vR x1)]) C dX1_isRoot_1 rfl (by decide) rfl ?_
  refine g_aload_n C dX1_isRoot_2 rfl 1 rfl ?_
  obtain ⟨v1, hv1, hd⟩ := Option.bind_eq_some_iff.mp hd
  refine g_fld C gk_X1 (k := 1) (by decide) q386 (Or.inl rfl) dX1_isRoot_3 (gR_v hv1) ?_
  obtain ⟨hg, hd⟩ := gd_some hd
  obtain ⟨v3, S2, hc, hd⟩ := bn_some hd
  refine g_cF_v (n := 0) C (gk_J4).1 q812 q843 q841 q99 q845 (List.mem_of_getElem? (i := 18) rfl) (by decide +kernel) (by decide) (by decide) dX1_isRoot_6 (As := []) (rest := []) rfl rfl (Nat.le_of_ble_eq_true rfl) hg (mh_J3_iterator E hc) ?_
  refine g_astore_n (L' := [(3, vR v3), (2, vI (0 : Int32)), (0, vR x0), (1, vR x1)]) C dX1_isRoot_11 rfl (by decide) rfl ?_
  refine g_sub [3, 1, 0] rfl ?_
  exact w_X1_isRoot_b12 C E Q FU _ _ _ _ hd
theorem m_X1_isRoot {Γ : GG} {HI : St → Heap → Prop} {l : Launch} (E : EH Γ HI l) {S : St} {a0 : Option Nat} {a1 : Option Nat} {r : Int32} {S1 : St} (h : n_X1_isRoot S a0 a1 = some (r, S1)) : MS Γ HI l yX1_isRoot cX1_isRoot 5 (some (Jvm.ClassFile.FieldType.boolean)) 7 S [vR a0, vR a1] (.inl (some (vI r))) S1 := by
  refine MS_of E.ntr E.hx (by decide +kernel) rfl (Nat.le_of_ble_eq_true rfl) fun K e1 e2 e3 e4 hnm C Q => ?_
  subst e1; subst e2; subst e3
  exact w_X1_isRoot_b0m C E Q S a0 a1 h

def n_X1_isKnownBelow_b62 (S : St) (x2 : Option Nat) (x3 : Option Nat) : Option (Int32 × St) :=
  if x3 = none then
    rtI id (Jvm.ClassFile.FieldType.boolean) (0 : Int32) S
  else
    (gR S x3 5 1).bind fun v1 =>
    if v1 = x2 then
      rtI id (Jvm.ClassFile.FieldType.boolean) (1 : Int32) S
    else
      rtI id (Jvm.ClassFile.FieldType.boolean) (0 : Int32) S
def n_X1_isKnownBelow_b13 : Nat → St → Option Nat → Option Nat → Option Nat → Int32 → Option (Int32 × St)
  | 0 => fun _ _ _ _ _ => none
  | n + 1 => fun S x0 x2 x3 x4 =>
    if x3 = none then
      n_X1_isKnownBelow_b62 S x2 x3
    else
      (gR S x3 5 1).bind fun v1 =>
      if v1 = x2 then
        n_X1_isKnownBelow_b62 S x2 x3
      else
        if (60 : Int32) < x4 then
          n_X1_isKnownBelow_b62 S x2 x3
        else
          (gR S x3 5 1).bind fun v2 =>
          gd (grc S x0 0) <|
          bn (n_X1_isRoot S x0 v2) fun v4 S3 =>
          if v4 = 0 then
            (gR S3 x0 0 2).bind fun v5 =>
            (gR S3 x3 5 1).bind fun v6 =>
            (gI S3 v6 1 0).bind fun v7 =>
            (aR S3 v5 5 v7).bind fun v8 =>
            (n_X1_isKnownBelow_b13 n) S3 x0 x2 v8 (x4 + 1)
          else
            n_X1_isKnownBelow_b62 S3 x2 x3
def n_X1_isKnownBelow (S : St) (x0 : Option Nat) (x1 : Option Nat) (x2 : Option Nat) : Option (Int32 × St) :=
  (gR S x0 0 2).bind fun v1 =>
  (gI S x1 1 0).bind fun v2 =>
  (aR S v1 5 v2).bind fun v3 =>
  n_X1_isKnownBelow_b13 FU S x0 x2 v3 (0 : Int32)
theorem w_X1_isKnownBelow_b62 {K : KT} {r : Int32} {S1 : St} (C : GC K RX1 cX1_isKnownBelow 5 8 []) (E : EH (kΓ K) (kHI K) (kl K)) (Q : GQ K (some (Jvm.ClassFile.FieldType.boolean)) (.inl (some (vI r))) S1) : ∀ (S : St) (x2 : Option Nat) (x3 : Option Nat), n_X1_isKnownBelow_b62 S x2 x3 = some (r, S1) → G K 5 S 62 [(2, vR x2), (3, vR x3)] [] := by
  intro S x2 x3 hd
  unfold n_X1_isKnownBelow_b62 at hd
  refine g_aload_n C dX1_isKnownBelow_62 rfl 1 rfl ?_
  refine g_ifnull (tgt := 78) C dX1_isKnownBelow_63 (by decide) hd (fun hd => ?_) (fun hd => ?_)
  · refine g_iconst (v := 0) C dX1_isKnownBelow_78 (by decide) ?_
    exact g_iret C Q hd dX1_isKnownBelow_79
  · refine g_aload_n C dX1_isKnownBelow_66 rfl 1 rfl ?_
    obtain ⟨v1, hv1, hd⟩ := Option.bind_eq_some_iff.mp hd
    refine g_fldN C gk_X7 (k := 1) (by decide) q1686 rfl dX1_isKnownBelow_67 (gR_v hv1) ?_
    refine g_aload_n C dX1_isKnownBelow_70 rfl 0 rfl ?_
    refine g_acmp_ne (tgt := 78) C dX1_isKnownBelow_71 (by decide) hd (fun hd => ?_) (fun hd => ?_)
    · refine g_iconst (v := 0) C dX1_isKnownBelow_78 (by decide) ?_
      exact g_iret C Q hd dX1_isKnownBelow_79
    · refine g_iconst (v := 1) C dX1_isKnownBelow_74 (by decide) ?_
      refine g_goto (tgt := 79) C dX1_isKnownBelow_75 (by decide) ?_
      exact g_iret C Q hd dX1_isKnownBelow_79
theorem w_X1_isKnownBelow_b13 {K : KT} {r : Int32} {S1 : St} (C : GC K RX1 cX1_isKnownBelow 5 8 []) (E : EH (kΓ K) (kHI K) (kl K)) (Q : GQ K (some (Jvm.ClassFile.FieldType.boolean)) (.inl (some (vI r))) S1) : ∀ (n : Nat) (S : St) (x0 : Option Nat) (x2 : Option Nat) (x3 : Option Nat) (x4 : Int32), n_X1_isKnownBelow_b13 n S x0 x2 x3 x4 = some (r, S1) → G K 5 S 13 [(0, vR x0), (2, vR x2), (3, vR x3), (4, vI x4)] [] := by
  intro n
  induction n with
  | zero => intro S x0 x2 x3 x4 hd; cases hd
  | succ n ih =>
    intro S x0 x2 x3 x4 hd
    unfold n_X1_isKnownBelow_b13 at hd
    refine g_aload_n C dX1_isKnownBelow_13 rfl 2 rfl ?_
    refine g_ifnull (tgt := 62) C dX1_isKnownBelow_14 (by decide) hd (fun hd => ?_) (fun hd => ?_)
    · refine g_sub [1, 2] rfl ?_
      exact w_X1_isKnownBelow_b62 C E Q _ _ _ hd
    · refine g_aload_n C dX1_isKnownBelow_17 rfl 2 rfl ?_
      obtain ⟨v1, hv1, hd⟩ := Option.bind_eq_some_iff.mp hd
      refine g_fldN C gk_X7 (k := 1) (by decide) q1686 rfl dX1_isKnownBelow_18 (gR_v hv1) ?_
      refine g_aload_n C dX1_isKnownBelow_21 rfl 1 rfl ?_
      refine g_acmp_eq (tgt := 62) C dX1_isKnownBelow_22 (by decide) hd (fun hd => ?_) (fun hd => ?_)
      · refine g_sub [1, 2] rfl ?_
        exact w_X1_isKnownBelow_b62 C E Q _ _ _ hd
      · refine g_iload C dX1_isKnownBelow_25 3 rfl ?_
        refine g_bipush (v := 60) C dX1_isKnownBelow_27 (by decide) ?_
        refine g_icmp_gt (tgt := 62) C dX1_isKnownBelow_29 (by decide) hd (fun hd => ?_) (fun hd => ?_)
        · refine g_sub [1, 2] rfl ?_
          exact w_X1_isKnownBelow_b62 C E Q _ _ _ hd
        · refine g_aload_n C dX1_isKnownBelow_32 rfl 0 rfl ?_
          refine g_aload_n C dX1_isKnownBelow_33 rfl 2 rfl ?_
          obtain ⟨v2, hv2, hd⟩ := Option.bind_eq_some_iff.mp hd
          refine g_fldN C gk_X7 (k := 1) (by decide) q1686 rfl dX1_isKnownBelow_34 (gR_v hv2) ?_
          obtain ⟨hg, hd⟩ := gd_some hd
          obtain ⟨v4, S3, hc, hd⟩ := bn_some hd
          refine g_cV_v (n := 1) C (gk_X1).1 q1645 q1647 qs36 q95 q1648 (by decide +kernel) (by decide) (by decide) dX1_isKnownBelow_37 (As := [vR v2]) (rest := []) rfl rfl (Nat.le_of_ble_eq_true rfl) hg (m_X1_isRoot E hc) ?_
          refine g_if_ne (tgt := 62) C dX1_isKnownBelow_40 (by decide) hd (fun hd => ?_) (fun hd => ?_)
          · refine g_sub [1, 2] rfl ?_
            exact w_X1_isKnownBelow_b62 C E Q _ _ _ hd
          · refine g_aload_n C dX1_isKnownBelow_43 rfl 0 rfl ?_
            obtain ⟨v5, hv5, hd⟩ := Option.bind_eq_some_iff.mp hd
            refine g_fld C gk_X1 (k := 2) (by decide) q387 (Or.inl rfl) dX1_isKnownBelow_44 (gR_v hv5) ?_
            refine g_aload_n C dX1_isKnownBelow_47 rfl 2 rfl ?_
            obtain ⟨v6, hv6, hd⟩ := Option.bind_eq_some_iff.mp hd
            refine g_fldN C gk_X7 (k := 1) (by decide) q1686 rfl dX1_isKnownBelow_48 (gR_v hv6) ?_
            obtain ⟨v7, hv7, hd⟩ := Option.bind_eq_some_iff.mp hd
            refine g_fldN C gk_X2 (k := 0) (by decide) q240 rfl dX1_isKnownBelow_51 (gI_v hv7) ?_
            obtain ⟨v8, hv8, hd⟩ := Option.bind_eq_some_iff.mp hd
            refine g_aald C 5 (by decide) dX1_isKnownBelow_54 hv8 ?_
            refine g_astore_n (L' := [(3, vR v8), (0, vR x0), (2, vR x2), (4, vI x4)]) C dX1_isKnownBelow_55 rfl (by decide) rfl ?_
            refine g_iinc (v := x4 + 1) (L' := [(4, vI (x4 + 1)), (3, vR v8), (0, vR x0), (2, vR x2)]) C dX1_isKnownBelow_56 3 rfl rfl (by decide) rfl ?_
            refine g_goto (tgt := 13) C dX1_isKnownBelow_59 (by decide) ?_
            refine g_sub [2, 3, 1, 0] rfl ?_
            exact ih _ _ _ _ _ hd
theorem w_X1_isKnownBelow_b0m {K : KT} {r : Int32} {S1 : St} (C : GC K RX1 cX1_isKnownBelow 5 8 []) (E : EH (kΓ K) (kHI K) (kl K)) (Q : GQ K (some (Jvm.ClassFile.FieldType.boolean)) (.inl (some (vI r))) S1) : ∀ (S : St) (x0 : Option Nat) (x1 : Option Nat) (x2 : Option Nat), n_X1_isKnownBelow S x0 x1 x2 = some (r, S1) → G K 5 S 0 [(0, vR x0), (1, vR x1), (2, vR x2)] [] := by
  intro S x0 x1 x2 hd
  unfold n_X1_isKnownBelow at hd
  refine g_aload_n C dX1_isKnownBelow_0 rfl 0 rfl ?_
  obtain ⟨v1, hv1, hd⟩ := Option.bind_eq_some_iff.mp hd
  refine g_fld C gk_X1 (k := 2) (by decide) q387 (Or.inl rfl) dX1_isKnownBelow_1 (gR_v hv1) ?_
  refine g_aload_n C dX1_isKnownBelow_4 rfl 1 rfl ?_
  obtain ⟨v2, hv2, hd⟩ := Option.bind_eq_some_iff.mp hd
  refine g_fldN C gk_X2 (k := 0) (by decide) q240 rfl dX1_isKnownBelow_5 (gI_v hv2) ?_
  obtain ⟨v3, hv3, hd⟩ := Option.bind_eq_some_iff.mp hd
  refine g_aald C 5 (by decide) dX1_isKnownBelow_8 hv3 ?_
  refine g_astore_n (L' := [(3, vR v3), (0, vR x0), (1, vR x1), (2, vR x2)]) C dX1_isKnownBelow_9 rfl (by decide) rfl ?_
  refine g_iconst (v := 0) C dX1_isKnownBelow_10 (by decide) ?_
  refine g_istore (L' := [(4, vI (0 : Int32)), (3, vR v3), (0, vR x0), (1, vR x1), (2, vR x2)]) C dX1_isKnownBelow_11 (by decide) rfl ?_
  refine g_sub [2, 4, 1, 0] rfl ?_
  exact w_X1_isKnownBelow_b13 C E Q FU _ _ _ _ _ hd
theorem m_X1_isKnownBelow {Γ : GG} {HI : St → Heap → Prop} {l : Launch} (E : EH Γ HI l) {S : St} {a0 : Option Nat} {a1 : Option Nat} {a2 : Option Nat} {r : Int32} {S1 : St} (h : n_X1_isKnownBelow S a0 a1 a2 = some (r, S1)) : MS Γ HI l yX1_isKnownBelow cX1_isKnownBelow 5 (some (Jvm.ClassFile.FieldType.boolean)) 8 S [vR a0, vR a1, vR a2] (.inl (some (vI r))) S1 := by
  refine MS_of E.ntr E.hx (by decide +kernel) rfl (Nat.le_of_ble_eq_true rfl) fun K e1 e2 e3 e4 hnm C Q => ?_
  subst e1; subst e2; subst e3
  exact w_X1_isKnownBelow_b0m C E Q S a0 a1 a2 h

def n_X1_drop_b71 (k10 : St → Option Nat → Option Nat → Option Nat → Int32 → Option (Unit × St)) (S : St) (x0 : Option Nat) (x1 : Option Nat) (x2 : Option Nat) (x3 : Int32) : Option (Unit × St) :=
  k10 S x0 x1 x2 (x3 + 1)
def n_X1_drop_b58 (k10 : St → Option Nat → Option Nat → Option Nat → Int32 → Option (Unit × St)) (S : St) (x0 : Option Nat) (x1 : Option Nat) (x2 : Option Nat) (x3 : Int32) : Option (Unit × St) :=
  (gR S x0 0 2).bind fun v1 =>
  (aR S v1 5 x3).bind fun v2 =>
  gd (grc S x2 8) <|
  bn (h_J2_add S x2 v2) fun v4 S3 =>
  n_X1_drop_b71 k10 S3 x0 x1 x2 x3
def n_X1_drop_b84 : Nat → St → Option Nat → Option Nat → Option (Unit × St)
  | 0 => fun _ _ _ => none
  | n + 1 => fun S x0 x3 =>
    gd (grc S x3 12) <|
    bn (h_J26_hasNext S x3) fun v2 S1 =>
    if v2 = 0 then
      some ((), S1)
    else
      gd (grc S1 x3 12) <|
      bn (h_J26_next S1 x3) fun v4 S3 =>
      gd (gcst S3 v4 5) <|
      gd (grc S3 x0 0) <|
      bn (n_X1_forget S3 x0 v4) fun _ S5 =>
      (n_X1_drop_b84 n) S5 x0 x3
def n_X1_drop_b10 : Nat → St → Option Nat → Option Nat → Option Nat → Int32 → Option (Unit × St)
  | 0 => fun _ _ _ _ _ => none
  | n + 1 => fun S x0 x1 x2 x3 =>
    if (60 : Int32) ≤ x3 then
      gd (grc S x2 8) <|
      bn (h_J2_iterator S x2) fun v2 S1 =>
      n_X1_drop_b84 FU S1 x0 v2
    else
      (gR S x0 0 2).bind fun v3 =>
      (aR S v3 5 x3).bind fun v4 =>
      if v4 = none then
        n_X1_drop_b71 (n_X1_drop_b10 n) S x0 x1 x2 x3
      else
        (gI S x1 1 0).bind fun v5 =>
        if x3 = v5 then
          n_X1_drop_b58 (n_X1_drop_b10 n) S x0 x1 x2 x3
        else
          gd (grc S x0 0) <|
          bn (n_X1_isRoot S x0 x1) fun v7 S6 =>
          if v7 = 0 then
            (gR S6 x0 0 2).bind fun v8 =>
            (aR S6 v8 5 x3).bind fun v9 =>
            (gR S6 v9 5 0).bind fun v10 =>
            gd (grc S6 x0 0) <|
            bn (n_X1_isKnownBelow S6 x0 v10 x1) fun v12 S11 =>
            if v12 = 0 then
              n_X1_drop_b71 (n_X1_drop_b10 n) S11 x0 x1 x2 x3
            else
              n_X1_drop_b58 (n_X1_drop_b10 n) S11 x0 x1 x2 x3
          else
            n_X1_drop_b71 (n_X1_drop_b10 n) S6 x0 x1 x2 x3
def n_X1_drop (S : St) (x0 : Option Nat) (x1 : Option Nat) : Option (Unit × St) :=
  nwB S (cO 8 [vI 0, vR none, vI 0]) 3 fun q1 S2 =>
  gd (q1).isSome <|
  bn (h_J2_init S2 q1) fun _ S3 =>
  n_X1_drop_b10 FU S3 x0 x1 q1 (0 : Int32)
theorem w_X1_drop_b71 {K : KT} {r : Unit} {S1 : St} (C : GC K RX1 cX1_drop 5 9 []) (E : EH (kΓ K) (kHI K) (kl K)) (Q : GQ K none (.inl none) S1) {k10 : St → Option Nat → Option Nat → Option Nat → Int32 → Option (Unit × St)} (h10 : ∀ (S : St) (x0 : Option Nat) (x1 : Option Nat) (x2 : Option Nat) (x3 : Int32), k10 S x0 x1 x2 x3 = some (r, S1) → G K 5 S 10 [(0, vR x0), (1, vR x1), (2, vR x2), (3, vI x3)] []) : ∀ (S : St) (x0 : Option Nat) (x1 : Option Nat) (x2 : Option Nat) (x3 : Int32), n_X1_drop_b71 k10 S x0 x1 x2 x3 = some (r, S1) → G K 5 S 71 [(0, vR x0), (1, vR x1), (2, vR x2), (3, vI x3)] [] := by
  intro S x0 x1 x2 x3 hd
  unfold n_X1_drop_b71 at hd
  refine g_iinc (v := x3 + 1) (L' := [(3, vI (x3 + 1)), (0, vR x0), (1, vR x1), (2, vR x2)]) C dX1_drop_71 3 rfl rfl (by decide) rfl ?_
  refine g_goto (tgt := 10) C dX1_drop_74 (by decide) ?_
  refine g_sub [1, 2, 3, 0] rfl ?_
  exact h10 _ _ _ _ _ hd
theorem w_X1_drop_b58 {K : KT} {r : Unit} {S1 : St} (C : GC K RX1 cX1_drop 5 9 []) (E : EH (kΓ K) (kHI K) (kl K)) (Q : GQ K none (.inl none) S1) {k10 : St → Option Nat → Option Nat → Option Nat → Int32 → Option (Unit × St)} (h10 : ∀ (S : St) (x0 : Option Nat) (x1 : Option Nat) (x2 : Option Nat) (x3 : Int32), k10 S x0 x1 x2 x3 = some (r, S1) → G K 5 S 10 [(0, vR x0), (1, vR x1), (2, vR x2), (3, vI x3)] []) : ∀ (S : St) (x0 : Option Nat) (x1 : Option Nat) (x2 : Option Nat) (x3 : Int32), n_X1_drop_b58 k10 S x0 x1 x2 x3 = some (r, S1) → G K 5 S 58 [(0, vR x0), (1, vR x1), (2, vR x2), (3, vI x3)] [] := by
  intro S x0 x1 x2 x3 hd
  unfold n_X1_drop_b58 at hd
  refine g_aload_n C dX1_drop_58 rfl 2 rfl ?_
  refine g_aload_n C dX1_drop_59 rfl 0 rfl ?_
  obtain ⟨v1, hv1, hd⟩ := Option.bind_eq_some_iff.mp hd
  refine g_fld C gk_X1 (k := 2) (by decide) q387 (Or.inl rfl) dX1_drop_60 (gR_v hv1) ?_
  refine g_iload_n C dX1_drop_63 rfl 3 rfl ?_
  obtain ⟨v2, hv2, hd⟩ := Option.bind_eq_some_iff.mp hd
  refine g_aald C 5 (by decide) dX1_drop_64 hv2 ?_
  obtain ⟨hg, hd⟩ := gd_some hd
  obtain ⟨v4, S3, hc, hd⟩ := bn_some hd
  refine g_cF_v (n := 1) C (gk_J2).1 q274 q280 q278 q98 q282 (List.mem_of_getElem? (i := 0) rfl) (by decide +kernel) (by decide) (by decide) dX1_drop_65 (As := [vR v2]) (rest := []) rfl rfl (Nat.le_of_ble_eq_true rfl) hg (mh_J2_add E hc) ?_
  refine g_pop C dX1_drop_70 rfl ?_
  refine g_sub [0, 1, 2, 3] rfl ?_
  exact w_X1_drop_b71 C E Q h10 _ _ _ _ _ hd
theorem w_X1_drop_b84 {K : KT} {r : Unit} {S1 : St} (C : GC K RX1 cX1_drop 5 9 []) (E : EH (kΓ K) (kHI K) (kl K)) (Q : GQ K none (.inl none) S1) : ∀ (n : Nat) (S : St) (x0 : Option Nat) (x3 : Option Nat), n_X1_drop_b84 n S x0 x3 = some (r, S1) → G K 5 S 84 [(0, vR x0), (3, vR x3)] [] := by
  intro n
  induction n with
  | zero => intro S x0 x3 hd; cases hd
  | succ n ih =>
    intro S x0 x3 hd
    unfold n_X1_drop_b84 at hd
    refine g_aload_n C dX1_drop_84 rfl 1 rfl ?_
    obtain ⟨hg, hd⟩ := gd_some hd
    obtain ⟨v2, S1, hc, hd⟩ := bn_some hd
    refine g_cF_v (n := 0) C (gk_J26).1 q925 q942 q940 q125 q944 (List.mem_of_getElem? (i := 9) rfl) (by decide +kernel) (by decide) (by decide) dX1_drop_85 (As := []) (rest := []) rfl rfl (Nat.le_of_ble_eq_true rfl) hg (mh_J26_hasNext E hc) ?_
    refine g_if_eq (tgt := 113) C dX1_drop_90 (by decide) hd (fun hd => ?_) (fun hd => ?_)
    · exact g_vret C Q hd dX1_drop_113
    · refine g_aload_n C dX1_drop_93 rfl 1 rfl ?_
      obtain ⟨hg, hd⟩ := gd_some hd
      obtain ⟨v4, S3, hc, hd⟩ := bn_some hd
      refine g_cF_v (n := 0) C (gk_J26).1 q955 q1034 q1032 q125 q1036 (List.mem_of_getElem? (i := 10) rfl) (by decide +kernel) (by decide) (by decide) dX1_drop_94 (As := []) (rest := []) rfl rfl (Nat.le_of_ble_eq_true rfl) hg (mh_J26_next E hc) ?_
      refine g_cast C (gk_X7).1 q205 dX1_drop_99 hd (fun hd => ?_)
      refine g_astore (L' := [(4, vR v4), (0, vR x0), (3, vR x3)]) C dX1_drop_102 (by decide) rfl ?_
      refine g_aload_n C dX1_drop_104 rfl 1 rfl ?_
      refine g_aload C dX1_drop_105 0 rfl ?_
      obtain ⟨hg, hd⟩ := gd_some hd
      obtain ⟨_, S5, hc, hd⟩ := bn_some hd
      refine g_cV_n (n := 1) C (gk_X1).1 q1653 q1655 qs38 q95 q1656 (by decide +kernel) (by decide) (by decide) dX1_drop_107 (As := [vR v4]) (rest := []) rfl rfl (Nat.le_of_ble_eq_true rfl) hg (m_X1_forget E hc) ?_
      refine g_goto (tgt := 84) C dX1_drop_110 (by decide) ?_
      refine g_sub [1, 2] rfl ?_
      exact ih _ _ _ hd
theorem w_X1_drop_b10 {K : KT} {r : Unit} {S1 : St} (C : GC K RX1 cX1_drop 5 9 []) (E : EH (kΓ K) (kHI K) (kl K)) (Q : GQ K none (.inl none) S1) : ∀ (n : Nat) (S : St) (x0 : Option Nat) (x1 : Option Nat) (x2 : Option Nat) (x3 : Int32), n_X1_drop_b10 n S x0 x1 x2 x3 = some (r, S1) → G K 5 S 10 [(0, vR x0), (1, vR x1), (2, vR x2), (3, vI x3)] [] := by
  intro n
  induction n with
  | zero => intro S x0 x1 x2 x3 hd; cases hd
  | succ n ih =>
    intro S x0 x1 x2 x3 hd
    unfold n_X1_drop_b10 at hd
    refine g_iload_n C dX1_drop_10 rfl 3 rfl ?_
    refine g_bipush (v := 60) C dX1_drop_11 (by decide) ?_
    refine g_icmp_ge (tgt := 77) C dX1_drop_13 (by decide) hd (fun hd => ?_) (fun hd => ?_)
    · refine g_aload_n C dX1_drop_77 rfl 2 rfl ?_
      obtain ⟨hg, hd⟩ := gd_some hd
      obtain ⟨v2, S1, hc, hd⟩ := bn_some hd
      refine g_cF_v (n := 0) C (gk_J2).1 q812 q817 q815 q98 q819 (List.mem_of_getElem? (i := 3) rfl) (by decide +kernel) (by decide) (by decide) dX1_drop_78 (As := []) (rest := []) rfl rfl (Nat.le_of_ble_eq_true rfl) hg (mh_J2_iterator E hc) ?_
      refine g_astore_n (L' := [(3, vR v2), (0, vR x0), (1, vR x1), (2, vR x2)]) C dX1_drop_83 rfl (by decide) rfl ?_
      refine g_sub [1, 0] rfl ?_
      exact w_X1_drop_b84 C E Q FU _ _ _ hd
    · refine g_aload_n C dX1_drop_16 rfl 0 rfl ?_
      obtain ⟨v3, hv3, hd⟩ := Option.bind_eq_some_iff.mp hd
      refine g_fld C gk_X1 (k := 2) (by decide) q387 (Or.inl rfl) dX1_drop_17 (gR_v hv3) ?_
      refine g_iload_n C dX1_drop_20 rfl 3 rfl ?_
      obtain ⟨v4, hv4, hd⟩ := Option.bind_eq_some_iff.mp hd
      refine g_aald C 5 (by decide) dX1_drop_21 hv4 ?_
      refine g_ifnull (tgt := 71) C dX1_drop_22 (by decide) hd (fun hd => ?_) (fun hd => ?_)
      · refine g_sub [0, 1, 2, 3] rfl ?_
        exact w_X1_drop_b71 C E Q ih _ _ _ _ _ hd
      · refine g_iload_n C dX1_drop_25 rfl 3 rfl ?_
        refine g_aload_n C dX1_drop_26 rfl 1 rfl ?_
        obtain ⟨v5, hv5, hd⟩ := Option.bind_eq_some_iff.mp hd
        refine g_fldN C gk_X2 (k := 0) (by decide) q240 rfl dX1_drop_27 (gI_v hv5) ?_
        refine g_icmp_eq (tgt := 58) C dX1_drop_30 (by decide) hd (fun hd => ?_) (fun hd => ?_)
        · refine g_sub [0, 1, 2, 3] rfl ?_
          exact w_X1_drop_b58 C E Q ih _ _ _ _ _ hd
        · refine g_aload_n C dX1_drop_33 rfl 0 rfl ?_
          refine g_aload_n C dX1_drop_34 rfl 1 rfl ?_
          obtain ⟨hg, hd⟩ := gd_some hd
          obtain ⟨v7, S6, hc, hd⟩ := bn_some hd
          refine g_cV_v (n := 1) C (gk_X1).1 q1645 q1647 qs36 q95 q1648 (by decide +kernel) (by decide) (by decide) dX1_drop_35 (As := [vR x1]) (rest := []) rfl rfl (Nat.le_of_ble_eq_true rfl) hg (m_X1_isRoot E hc) ?_
          refine g_if_ne (tgt := 71) C dX1_drop_38 (by decide) hd (fun hd => ?_) (fun hd => ?_)
          · refine g_sub [0, 1, 2, 3] rfl ?_
            exact w_X1_drop_b71 C E Q ih _ _ _ _ _ hd
          · refine g_aload_n C dX1_drop_41 rfl 0 rfl ?_
            refine g_aload_n C dX1_drop_42 rfl 0 rfl ?_
            obtain ⟨v8, hv8, hd⟩ := Option.bind_eq_some_iff.mp hd
            refine g_fld C gk_X1 (k := 2) (by decide) q387 (Or.inl rfl) dX1_drop_43 (gR_v hv8) ?_
            refine g_iload_n C dX1_drop_46 rfl 3 rfl ?_
            obtain ⟨v9, hv9, hd⟩ := Option.bind_eq_some_iff.mp hd
            refine g_aald C 5 (by decide) dX1_drop_47 hv9 ?_
            obtain ⟨v10, hv10, hd⟩ := Option.bind_eq_some_iff.mp hd
            refine g_fldN C gk_X7 (k := 0) (by decide) q1685 rfl dX1_drop_48 (gR_v hv10) ?_
            refine g_aload_n C dX1_drop_51 rfl 1 rfl ?_
            obtain ⟨hg, hd⟩ := gd_some hd
            obtain ⟨v12, S11, hc, hd⟩ := bn_some hd
            refine g_cV_v (n := 2) C (gk_X1).1 q1649 q1651 qs37 q95 q1652 (by decide +kernel) (by decide) (by decide) dX1_drop_52 (As := [vR v10, vR x1]) (rest := []) rfl rfl (Nat.le_of_ble_eq_true rfl) hg (m_X1_isKnownBelow E hc) ?_
            refine g_if_eq (tgt := 71) C dX1_drop_55 (by decide) hd (fun hd => ?_) (fun hd => ?_)
            · refine g_sub [0, 1, 2, 3] rfl ?_
              exact w_X1_drop_b71 C E Q ih _ _ _ _ _ hd
            · refine g_sub [0, 1, 2, 3] rfl ?_
              exact w_X1_drop_b58 C E Q ih _ _ _ _ _ hd
theorem w_X1_drop_b0m {K : KT} {r : Unit} {S1 : St} (C : GC K RX1 cX1_drop 5 9 []) (E : EH (kΓ K) (kHI K) (kl K)) (Q : GQ K none (.inl none) S1) : ∀ (S : St) (x0 : Option Nat) (x1 : Option Nat), n_X1_drop S x0 x1 = some (r, S1) → G K 5 S 0 [(0, vR x0), (1, vR x1)] [] := by
  intro S x0 x1 hd
  unfold n_X1_drop at hd
  refine g_new C gk_J2 (fun j hj => gdf_J2 j hj) q151 q152 q98 dX1_drop_0 hd (fun q1 S2 hd => ?_)
  refine g_dup C dX1_drop_3 rfl ?_
  obtain ⟨hg, hd⟩ := gd_some hd
  obtain ⟨_, S3, hc, hd⟩ := bn_some hd
  refine g_cI_n (n := 0) C q153 q154 q98 q155 rfl (by decide +kernel) (by decide) (by decide) dX1_drop_4 (As := []) (rest := [vR q1]) rfl rfl (Nat.le_of_ble_eq_true rfl) hg (mh_J2_init E hc) ?_
  refine g_astore_n (L' := [(2, vR q1), (0, vR x0), (1, vR x1)]) C dX1_drop_7 rfl (by decide) rfl ?_
  refine g_iconst (v := 0) C dX1_drop_8 (by decide) ?_
  refine g_istore_n (L' := [(3, vI (0 : Int32)), (2, vR q1), (0, vR x0), (1, vR x1)]) C dX1_drop_9 rfl (by decide) rfl ?_
  refine g_sub [2, 3, 1, 0] rfl ?_
  exact w_X1_drop_b10 C E Q FU _ _ _ _ _ hd
theorem m_X1_drop {Γ : GG} {HI : St → Heap → Prop} {l : Launch} (E : EH Γ HI l) {S : St} {a0 : Option Nat} {a1 : Option Nat} {r : Unit} {S1 : St} (h : n_X1_drop S a0 a1 = some (r, S1)) : MS Γ HI l yX1_drop cX1_drop 5 none 9 S [vR a0, vR a1] (.inl none) S1 := by
  refine MS_of E.ntr E.hx (by decide +kernel) rfl (Nat.le_of_ble_eq_true rfl) fun K e1 e2 e3 e4 hnm C Q => ?_
  subst e1; subst e2; subst e3
  exact w_X1_drop_b0m C E Q S a0 a1 h

def n_X1_perform_b77 (S : St) (x0 : Option Nat) (x2 : Option Nat) : Option (Unit × St) :=
  gd (grc S x0 0) <|
  bn (n_X1_look S x0 x2) fun _ S1 =>
  some ((), S1)
def n_X1_perform_b18 (S : St) (x0 : Option Nat) (x1 : Option Nat) (x2 : Option Nat) (y0 : Int32) : Option (Unit × St) :=
  if y0 = 0 then
    gd (grc S x0 0) <|
    bn (n_X1_drop S x0 x2) fun _ S10 =>
    some ((), S10)
  else
    (gI S x1 3 1).bind fun v1 =>
    if v1 = 0 then
      (gI S x2 1 1).bind fun v2 =>
      if v2 = 0 then
        (gI S x2 1 6).bind fun v3 =>
        if v3 = 0 then
          n_X1_perform_b77 S x0 x2
        else
          (pI .boolean S x1 3 2 (1 : Int32)).bind fun S4 =>
          (gR S4 x0 0 3).bind fun v5 =>
          gd (grc S4 v5 9) <|
          bn (h_J4_addLast S4 v5 x1) fun _ S6 =>
          some ((), S6)
      else
        n_X1_perform_b77 S x0 x2
    else
      gd (grc S x0 0) <|
      bn (n_X1_add S x0 x2 (0 : Int32)) fun _ S8 =>
      some ((), S8)
def n_X1_perform (S : St) (x0 : Option Nat) (x1 : Option Nat) : Option (Unit × St) :=
  (gR S x1 3 0).bind fun v1 =>
  gd (grc S x0 0) <|
  bn (n_X1_above S x0 v1) fun v3 S2 =>
  if v3 = none then
    n_X1_perform_b18 S2 x0 x1 v1 (0 : Int32)
  else
    n_X1_perform_b18 S2 x0 x1 v1 (1 : Int32)
theorem w_X1_perform_b77 {K : KT} {r : Unit} {S1 : St} (C : GC K RX1 cX1_perform 4 37 []) (E : EH (kΓ K) (kHI K) (kl K)) (Q : GQ K none (.inl none) S1) : ∀ (S : St) (x0 : Option Nat) (x2 : Option Nat), n_X1_perform_b77 S x0 x2 = some (r, S1) → G K 4 S 77 [(0, vR x0), (2, vR x2)] [] := by
  intro S x0 x2 hd
  unfold n_X1_perform_b77 at hd
  refine g_aload_n C dX1_perform_77 rfl 0 rfl ?_
  refine g_aload_n C dX1_perform_78 rfl 1 rfl ?_
  obtain ⟨hg, hd⟩ := gd_some hd
  obtain ⟨_, S1, hc, hd⟩ := bn_some hd
  refine g_cV_n (n := 1) C (gk_X1).1 q1673 q1675 qs39 q95 q1676 (by decide +kernel) (by decide) (by decide) dX1_perform_79 (As := [vR x2]) (rest := []) rfl rfl (Nat.le_of_ble_eq_true rfl) hg (m_X1_look E hc) ?_
  exact g_vret C Q hd dX1_perform_82
theorem w_X1_perform_b18 {K : KT} {r : Unit} {S1 : St} (C : GC K RX1 cX1_perform 4 37 []) (E : EH (kΓ K) (kHI K) (kl K)) (Q : GQ K none (.inl none) S1) : ∀ (S : St) (x0 : Option Nat) (x1 : Option Nat) (x2 : Option Nat) (y0 : Int32), n_X1_perform_b18 S x0 x1 x2 y0 = some (r, S1) → G K 4 S 18 [(0, vR x0), (1, vR x1), (2, vR x2)] [vI y0] := by
  intro S x0 x1 x2 y0 hd
  unfold n_X1_perform_b18 at hd
  refine g_istore_n (L' := [(3, vI y0), (0, vR x0), (1, vR x1), (2, vR x2)]) C dX1_perform_18 rfl (by decide) rfl ?_
  refine g_iload_n C dX1_perform_19 rfl 0 rfl ?_
  refine g_if_ne (tgt := 31) C dX1_perform_20 (by decide) hd (fun hd => ?_) (fun hd => ?_)
  · refine g_aload_n C dX1_perform_31 rfl 2 rfl ?_
    obtain ⟨v1, hv1, hd⟩ := Option.bind_eq_some_iff.mp hd
    refine g_fldN C gk_X5 (k := 1) (by decide) q1382 rfl dX1_perform_32 (gI_v hv1) ?_
    refine g_if_eq (tgt := 47) C dX1_perform_35 (by decide) hd (fun hd => ?_) (fun hd => ?_)
    · refine g_aload_n C dX1_perform_47 rfl 3 rfl ?_
      obtain ⟨v2, hv2, hd⟩ := Option.bind_eq_some_iff.mp hd
      refine g_fldN C gk_X2 (k := 1) (by decide) q242 rfl dX1_perform_48 (gI_v hv2) ?_
      refine g_if_ne (tgt := 77) C dX1_perform_51 (by decide) hd (fun hd => ?_) (fun hd => ?_)
      · refine g_sub [1, 3] rfl ?_
        exact w_X1_perform_b77 C E Q _ _ _ hd
      · refine g_aload_n C dX1_perform_54 rfl 3 rfl ?_
        obtain ⟨v3, hv3, hd⟩ := Option.bind_eq_some_iff.mp hd
        refine g_fldN C gk_X2 (k := 6) (by decide) q250 rfl dX1_perform_55 (gI_v hv3) ?_
        refine g_if_eq (tgt := 77) C dX1_perform_58 (by decide) hd (fun hd => ?_) (fun hd => ?_)
        · refine g_sub [1, 3] rfl ?_
          exact w_X1_perform_b77 C E Q _ _ _ hd
        · refine g_aload_n C dX1_perform_61 rfl 2 rfl ?_
          refine g_iconst (v := 1) C dX1_perform_62 (by decide) ?_
          obtain ⟨S4, hS4, hd⟩ := Option.bind_eq_some_iff.mp hd
          refine g_putN C gk_X5 (k := 2) (by decide) q1383 rfl rfl dX1_perform_63 (gfit_ok (pI_v hS4).1).1 (gfit_ok (pI_v hS4).1).2 (pI_v hS4).2 ?_
          refine g_aload_n C dX1_perform_66 rfl 1 rfl ?_
          obtain ⟨v5, hv5, hd⟩ := Option.bind_eq_some_iff.mp hd
          refine g_fld C gk_X1 (k := 3) (by decide) q388 (Or.inl rfl) dX1_perform_67 (gR_v hv5) ?_
          refine g_aload_n C dX1_perform_70 rfl 2 rfl ?_
          obtain ⟨hg, hd⟩ := gd_some hd
          obtain ⟨_, S6, hc, hd⟩ := bn_some hd
          refine g_cV_n (n := 1) C (gk_J4).1 q1391 q1211 q1212 q100 q1213 (by decide +kernel) (by decide) (by decide) dX1_perform_71 (As := [vR x1]) (rest := []) rfl rfl (Nat.le_of_ble_eq_true rfl) hg (mh_J4_addLast E hc) ?_
          refine g_goto (tgt := 82) C dX1_perform_74 (by decide) ?_
          exact g_vret C Q hd dX1_perform_82
    · refine g_aload_n C dX1_perform_38 rfl 1 rfl ?_
      refine g_aload_n C dX1_perform_39 rfl 3 rfl ?_
      refine g_iconst (v := 0) C dX1_perform_40 (by decide) ?_
      obtain ⟨hg, hd⟩ := gd_some hd
      obtain ⟨_, S8, hc, hd⟩ := bn_some hd
      refine g_cV_n (n := 2) C (gk_X1).1 q1365 q1367 qs24 q95 q1368 (by decide +kernel) (by decide) (by decide) dX1_perform_41 (As := [vR x2, vI (0 : Int32)]) (rest := []) rfl rfl (Nat.le_of_ble_eq_true rfl) hg (m_X1_add E hc) ?_
      refine g_goto (tgt := 82) C dX1_perform_44 (by decide) ?_
      exact g_vret C Q hd dX1_perform_82
  · refine g_aload_n C dX1_perform_23 rfl 1 rfl ?_
    refine g_aload_n C dX1_perform_24 rfl 3 rfl ?_
    obtain ⟨hg, hd⟩ := gd_some hd
    obtain ⟨_, S10, hc, hd⟩ := bn_some hd
    refine g_cV_n (n := 1) C (gk_X1).1 q1641 q1643 qs35 q95 q1644 (by decide +kernel) (by decide) (by decide) dX1_perform_25 (As := [vR x2]) (rest := []) rfl rfl (Nat.le_of_ble_eq_true rfl) hg (m_X1_drop E hc) ?_
    refine g_goto (tgt := 82) C dX1_perform_28 (by decide) ?_
    exact g_vret C Q hd dX1_perform_82
theorem w_X1_perform_b0m {K : KT} {r : Unit} {S1 : St} (C : GC K RX1 cX1_perform 4 37 []) (E : EH (kΓ K) (kHI K) (kl K)) (Q : GQ K none (.inl none) S1) : ∀ (S : St) (x0 : Option Nat) (x1 : Option Nat), n_X1_perform S x0 x1 = some (r, S1) → G K 4 S 0 [(0, vR x0), (1, vR x1)] [] := by
  intro S x0 x1 hd
  unfold n_X1_perform at hd
  refine g_aload_n C dX1_perform_0 rfl 1 rfl ?_
  obtain ⟨v1, hv1, hd⟩ := Option.bind_eq_some_iff.mp hd
  refine g_fldN C gk_X5 (k := 0) (by decide) q1380 rfl dX1_perform_1 (gR_v hv1) ?_
  refine g_astore_n (L' := [(2, vR v1), (0, vR x0), (1, vR x1)]) C dX1_perform_4 rfl (by decide) rfl ?_
  refine g_aload_n C dX1_perform_5 rfl 1 rfl ?_
  refine g_aload_n C dX1_perform_6 rfl 0 rfl ?_
  obtain ⟨hg, hd⟩ := gd_some hd
  obtain ⟨v3, S2, hc, hd⟩ := bn_some hd
  refine g_cV_v (n := 1) C (gk_X1).1 q1080 q1082 qs14 q95 q1083 (by decide +kernel) (by decide) (by decide) dX1_perform_7 (As := [vR v1]) (rest := []) rfl rfl (Nat.le_of_ble_eq_true rfl) hg (m_X1_above E hc) ?_
  refine g_ifnull (tgt := 17) C dX1_perform_10 (by decide) hd (fun hd => ?_) (fun hd => ?_)
  · refine g_iconst (v := 0) C dX1_perform_17 (by decide) ?_
    refine g_sub [1, 2, 0] rfl ?_
    exact w_X1_perform_b18 C E Q _ _ _ _ _ hd
  · refine g_iconst (v := 1) C dX1_perform_13 (by decide) ?_
    refine g_goto (tgt := 18) C dX1_perform_14 (by decide) ?_
    refine g_sub [1, 2, 0] rfl ?_
    exact w_X1_perform_b18 C E Q _ _ _ _ _ hd
theorem m_X1_perform {Γ : GG} {HI : St → Heap → Prop} {l : Launch} (E : EH Γ HI l) {S : St} {a0 : Option Nat} {a1 : Option Nat} {r : Unit} {S1 : St} (h : n_X1_perform S a0 a1 = some (r, S1)) : MS Γ HI l yX1_perform cX1_perform 4 none 37 S [vR a0, vR a1] (.inl none) S1 := by
  refine MS_of E.ntr E.hx (by decide +kernel) rfl (Nat.le_of_ble_eq_true rfl) fun K e1 e2 e3 e4 hnm C Q => ?_
  subst e1; subst e2; subst e3
  exact w_X1_perform_b0m C E Q S a0 a1 h

def n_X1_hear_b50 (S : St) (y0 : Int32) (y1 : Option Nat) (y2 : Option Nat) : Option (Unit × St) :=
  gd (grc S y2 0) <|
  bn (n_X1_add S y2 y1 y0) fun _ S1 =>
  some ((), S1)
def n_X1_hear (S : St) (x0 : Option Nat) (x1 : Option Nat) : Option (Unit × St) :=
  (gI S x1 4 2).bind fun v1 =>
  if v1 = 0 then
    (gR S x1 4 1).bind fun v2 =>
    gd (grc S v2 9) <|
    bn (h_J4_removeFirst S v2) fun v4 S3 =>
    gd (gcst S3 v4 2) <|
    (gR S3 v4 2 1).bind fun v5 =>
    (gR S3 v4 2 0).bind fun v6 =>
    if v6 = (some (S3.2.2.2 3)) then
      n_X1_hear_b50 S3 (1 : Int32) v5 x0
    else
      n_X1_hear_b50 S3 (0 : Int32) v5 x0
  else
    (pI .boolean S x1 4 2 (0 : Int32)).bind fun S7 =>
    gd (grc S7 x1 4) <|
    bn (n_X6_begin S7 x1) fun _ S8 =>
    some ((), S8)
theorem w_X1_hear_b50 {K : KT} {r : Unit} {S1 : St} (C : GC K RX1 cX1_hear 3 9 []) (E : EH (kΓ K) (kHI K) (kl K)) (Q : GQ K none (.inl none) S1) : ∀ (S : St) (y0 : Int32) (y1 : Option Nat) (y2 : Option Nat), n_X1_hear_b50 S y0 y1 y2 = some (r, S1) → G K 3 S 50 [] [vI y0, vR y1, vR y2] := by
  intro S y0 y1 y2 hd
  unfold n_X1_hear_b50 at hd
  obtain ⟨hg, hd⟩ := gd_some hd
  obtain ⟨_, S1, hc, hd⟩ := bn_some hd
  refine g_cV_n (n := 2) C (gk_X1).1 q1365 q1367 qs24 q95 q1368 (by decide +kernel) (by decide) (by decide) dX1_hear_50 (As := [vR y1, vI y0]) (rest := []) rfl rfl (Nat.le_of_ble_eq_true rfl) hg (m_X1_add E hc) ?_
  exact g_vret C Q hd dX1_hear_53
theorem w_X1_hear_b0m {K : KT} {r : Unit} {S1 : St} (C : GC K RX1 cX1_hear 3 9 []) (E : EH (kΓ K) (kHI K) (kl K)) (Q : GQ K none (.inl none) S1) : ∀ (S : St) (x0 : Option Nat) (x1 : Option Nat), n_X1_hear S x0 x1 = some (r, S1) → G K 3 S 0 [(0, vR x0), (1, vR x1)] [] := by
  intro S x0 x1 hd
  unfold n_X1_hear at hd
  refine g_aload_n C dX1_hear_0 rfl 1 rfl ?_
  obtain ⟨v1, hv1, hd⟩ := Option.bind_eq_some_iff.mp hd
  refine g_fldN C gk_X6 (k := 2) (by decide) q1441 rfl dX1_hear_1 (gI_v hv1) ?_
  refine g_if_eq (tgt := 19) C dX1_hear_4 (by decide) hd (fun hd => ?_) (fun hd => ?_)
  · refine g_aload_n C dX1_hear_19 rfl 1 rfl ?_
    obtain ⟨v2, hv2, hd⟩ := Option.bind_eq_some_iff.mp hd
    refine g_fldN C gk_X6 (k := 1) (by decide) q1439 rfl dX1_hear_20 (gR_v hv2) ?_
    obtain ⟨hg, hd⟩ := gd_some hd
    obtain ⟨v4, S3, hc, hd⟩ := bn_some hd
    refine g_cV_v (n := 0) C (gk_J4).1 q1589 q1590 q1591 q100 q1592 (by decide +kernel) (by decide) (by decide) dX1_hear_23 (As := []) (rest := []) rfl rfl (Nat.le_of_ble_eq_true rfl) hg (mh_J4_removeFirst E hc) ?_
    refine g_cast C (gk_X4).1 q1533 dX1_hear_26 hd (fun hd => ?_)
    refine g_astore_n (L' := [(2, vR v4), (0, vR x0), (1, vR x1)]) C dX1_hear_29 rfl (by decide) rfl ?_
    refine g_aload_n C dX1_hear_30 rfl 1 rfl ?_
    refine g_aload_n C dX1_hear_31 rfl 0 rfl ?_
    obtain ⟨v5, hv5, hd⟩ := Option.bind_eq_some_iff.mp hd
    refine g_fldN C gk_X4 (k := 1) (by decide) q1204 rfl dX1_hear_32 (gR_v hv5) ?_
    refine g_aload_n C dX1_hear_35 rfl 0 rfl ?_
    obtain ⟨v6, hv6, hd⟩ := Option.bind_eq_some_iff.mp hd
    refine g_fldN C gk_X4 (k := 0) (by decide) q1202 rfl dX1_hear_36 (gR_v hv6) ?_
    refine g_getsR C 3 (fun lv => (C lv).hk.2.2.2.2.1.2.2.2.2) q1289 rfl dX1_hear_39 ?_
    refine g_acmp_ne (tgt := 49) C dX1_hear_42 (by decide) hd (fun hd => ?_) (fun hd => ?_)
    · refine g_iconst (v := 0) C dX1_hear_49 (by decide) ?_
      refine g_sub [] rfl ?_
      exact w_X1_hear_b50 C E Q _ _ _ _ hd
    · refine g_iconst (v := 1) C dX1_hear_45 (by decide) ?_
      refine g_goto (tgt := 50) C dX1_hear_46 (by decide) ?_
      refine g_sub [] rfl ?_
      exact w_X1_hear_b50 C E Q _ _ _ _ hd
  · refine g_aload_n C dX1_hear_7 rfl 1 rfl ?_
    refine g_iconst (v := 0) C dX1_hear_8 (by decide) ?_
    obtain ⟨S7, hS7, hd⟩ := Option.bind_eq_some_iff.mp hd
    refine g_putN C gk_X6 (k := 2) (by decide) q1441 rfl rfl dX1_hear_9 (gfit_ok (pI_v hS7).1).1 (gfit_ok (pI_v hS7).1).2 (pI_v hS7).2 ?_
    refine g_aload_n C dX1_hear_12 rfl 1 rfl ?_
    obtain ⟨hg, hd⟩ := gd_some hd
    obtain ⟨_, S8, hc, hd⟩ := bn_some hd
    refine g_cV_n (n := 0) C (gk_X6).1 q1457 q1458 q1459 q137 q1460 (by decide +kernel) (by decide) (by decide) dX1_hear_13 (As := []) (rest := []) rfl rfl (Nat.le_of_ble_eq_true rfl) hg (m_X6_begin E hc) ?_
    refine g_goto (tgt := 53) C dX1_hear_16 (by decide) ?_
    exact g_vret C Q hd dX1_hear_53
theorem m_X1_hear {Γ : GG} {HI : St → Heap → Prop} {l : Launch} (E : EH Γ HI l) {S : St} {a0 : Option Nat} {a1 : Option Nat} {r : Unit} {S1 : St} (h : n_X1_hear S a0 a1 = some (r, S1)) : MS Γ HI l yX1_hear cX1_hear 3 none 9 S [vR a0, vR a1] (.inl none) S1 := by
  refine MS_of E.ntr E.hx (by decide +kernel) rfl (Nat.le_of_ble_eq_true rfl) fun K e1 e2 e3 e4 hnm C Q => ?_
  subst e1; subst e2; subst e3
  exact w_X1_hear_b0m C E Q S a0 a1 h

def n_X1_costOf_b70 (S : St) (x2 : Option Nat) (y0 : Int32) : Option (Int32 × St) :=
  if y0 = 0 then
    rtI id (Jvm.ClassFile.FieldType.int) (1 : Int32) S
  else
    (gR S x2 1 5).bind fun v1 =>
    gd (grc S v1 8) <|
    bn (h_J2_size S v1) fun v3 S2 =>
    rtI id (Jvm.ClassFile.FieldType.int) ((1 : Int32) + v3) S2
def n_X1_costOf_b65 (S : St) (x2 : Option Nat) : Option (Int32 × St) :=
  n_X1_costOf_b70 S x2 (1 : Int32)
def n_X1_costOf_b69 (S : St) (x2 : Option Nat) : Option (Int32 × St) :=
  n_X1_costOf_b70 S x2 (0 : Int32)
def n_X1_costOf (S : St) (x0 : Option Nat) (x1 : Option Nat) : Option (Int32 × St) :=
  (gR S x1 3 0).bind fun v1 =>
  (gI S x1 3 1).bind fun v2 =>
  if v2 = 0 then
    (gI S v1 1 1).bind fun v3 =>
    if v3 = 0 then
      (gI S v1 1 6).bind fun v4 =>
      if v4 = 0 then
        gd (grc S x0 0) <|
        bn (n_X1_above S x0 v1) fun v6 S5 =>
        if v6 = none then
          n_X1_costOf_b69 S5 v1
        else
          (gR S5 x0 0 2).bind fun v7 =>
          (gI S5 v1 1 0).bind fun v8 =>
          (aR S5 v7 5 v8).bind fun v9 =>
          if v9 = none then
            n_X1_costOf_b65 S5 v1
          else
            (gR S5 x0 0 2).bind fun v10 =>
            (gI S5 v1 1 0).bind fun v11 =>
            (aR S5 v10 5 v11).bind fun v12 =>
            (gI S5 v12 5 3).bind fun v13 =>
            (gI S5 v1 1 4).bind fun v14 =>
            if v13 = v14 then
              n_X1_costOf_b69 S5 v1
            else
              n_X1_costOf_b65 S5 v1
      else
        n_X1_costOf_b69 S v1
    else
      n_X1_costOf_b69 S v1
  else
    n_X1_costOf_b69 S v1
theorem w_X1_costOf_b70 {K : KT} {r : Int32} {S1 : St} (C : GC K RX1 cX1_costOf 4 8 []) (E : EH (kΓ K) (kHI K) (kl K)) (Q : GQ K (some (Jvm.ClassFile.FieldType.int)) (.inl (some (vI r))) S1) : ∀ (S : St) (x2 : Option Nat) (y0 : Int32), n_X1_costOf_b70 S x2 y0 = some (r, S1) → G K 4 S 70 [(2, vR x2)] [vI y0] := by
  intro S x2 y0 hd
  unfold n_X1_costOf_b70 at hd
  refine g_istore_n (L' := [(3, vI y0), (2, vR x2)]) C dX1_costOf_70 rfl (by decide) rfl ?_
  refine g_iload_n C dX1_costOf_71 rfl 0 rfl ?_
  refine g_if_eq (tgt := 89) C dX1_costOf_72 (by decide) hd (fun hd => ?_) (fun hd => ?_)
  · refine g_iconst (v := 1) C dX1_costOf_89 (by decide) ?_
    exact g_iret C Q hd dX1_costOf_90
  · refine g_iconst (v := 1) C dX1_costOf_75 (by decide) ?_
    refine g_aload_n C dX1_costOf_76 rfl 1 rfl ?_
    obtain ⟨v1, hv1, hd⟩ := Option.bind_eq_some_iff.mp hd
    refine g_fldN C gk_X2 (k := 5) (by decide) q249 rfl dX1_costOf_77 (gR_v hv1) ?_
    obtain ⟨hg, hd⟩ := gd_some hd
    obtain ⟨v3, S2, hc, hd⟩ := bn_some hd
    refine g_cF_v (n := 0) C (gk_J2).1 q427 q432 q430 q98 q434 (List.mem_of_getElem? (i := 1) rfl) (by decide +kernel) (by decide) (by decide) dX1_costOf_80 (As := []) (rest := [vI (1 : Int32)]) rfl rfl (Nat.le_of_ble_eq_true rfl) hg (mh_J2_size E hc) ?_
    refine g_iadd C dX1_costOf_85 ?_
    refine g_goto (tgt := 90) C dX1_costOf_86 (by decide) ?_
    exact g_iret C Q hd dX1_costOf_90
theorem w_X1_costOf_b65 {K : KT} {r : Int32} {S1 : St} (C : GC K RX1 cX1_costOf 4 8 []) (E : EH (kΓ K) (kHI K) (kl K)) (Q : GQ K (some (Jvm.ClassFile.FieldType.int)) (.inl (some (vI r))) S1) : ∀ (S : St) (x2 : Option Nat), n_X1_costOf_b65 S x2 = some (r, S1) → G K 4 S 65 [(2, vR x2)] [] := by
  intro S x2 hd
  unfold n_X1_costOf_b65 at hd
  refine g_iconst (v := 1) C dX1_costOf_65 (by decide) ?_
  refine g_goto (tgt := 70) C dX1_costOf_66 (by decide) ?_
  refine g_sub [0] rfl ?_
  exact w_X1_costOf_b70 C E Q _ _ _ hd
theorem w_X1_costOf_b69 {K : KT} {r : Int32} {S1 : St} (C : GC K RX1 cX1_costOf 4 8 []) (E : EH (kΓ K) (kHI K) (kl K)) (Q : GQ K (some (Jvm.ClassFile.FieldType.int)) (.inl (some (vI r))) S1) : ∀ (S : St) (x2 : Option Nat), n_X1_costOf_b69 S x2 = some (r, S1) → G K 4 S 69 [(2, vR x2)] [] := by
  intro S x2 hd
  unfold n_X1_costOf_b69 at hd
  refine g_iconst (v := 0) C dX1_costOf_69 (by decide) ?_
  refine g_sub [0] rfl ?_
  exact w_X1_costOf_b70 C E Q _ _ _ hd
theorem w_X1_costOf_b0m {K : KT} {r : Int32} {S1 : St} (C : GC K RX1 cX1_costOf 4 8 []) (E : EH (kΓ K) (kHI K) (kl K)) (Q : GQ K (some (Jvm.ClassFile.FieldType.int)) (.inl (some (vI r))) S1) : ∀ (S : St) (x0 : Option Nat) (x1 : Option Nat), n_X1_costOf S x0 x1 = some (r, S1) → G K 4 S 0 [(0, vR x0), (1, vR x1)] [] := by
  intro S x0 x1 hd
  unfold n_X1_costOf at hd
  refine g_aload_n C dX1_costOf_0 rfl 1 rfl ?_
  obtain ⟨v1, hv1, hd⟩ := Option.bind_eq_some_iff.mp hd
  refine g_fldN C gk_X5 (k := 0) (by decide) q1380 rfl dX1_costOf_1 (gR_v hv1) ?_
  refine g_astore_n (L' := [(2, vR v1), (0, vR x0), (1, vR x1)]) C dX1_costOf_4 rfl (by decide) rfl ?_
  refine g_aload_n C dX1_costOf_5 rfl 2 rfl ?_
  obtain ⟨v2, hv2, hd⟩ := Option.bind_eq_some_iff.mp hd
  refine g_fldN C gk_X5 (k := 1) (by decide) q1382 rfl dX1_costOf_6 (gI_v hv2) ?_
  refine g_if_ne (tgt := 69) C dX1_costOf_9 (by decide) hd (fun hd => ?_) (fun hd => ?_)
  · refine g_sub [0] rfl ?_
    exact w_X1_costOf_b69 C E Q _ _ hd
  · refine g_aload_n C dX1_costOf_12 rfl 0 rfl ?_
    obtain ⟨v3, hv3, hd⟩ := Option.bind_eq_some_iff.mp hd
    refine g_fldN C gk_X2 (k := 1) (by decide) q242 rfl dX1_costOf_13 (gI_v hv3) ?_
    refine g_if_ne (tgt := 69) C dX1_costOf_16 (by decide) hd (fun hd => ?_) (fun hd => ?_)
    · refine g_sub [0] rfl ?_
      exact w_X1_costOf_b69 C E Q _ _ hd
    · refine g_aload_n C dX1_costOf_19 rfl 0 rfl ?_
      obtain ⟨v4, hv4, hd⟩ := Option.bind_eq_some_iff.mp hd
      refine g_fldN C gk_X2 (k := 6) (by decide) q250 rfl dX1_costOf_20 (gI_v hv4) ?_
      refine g_if_ne (tgt := 69) C dX1_costOf_23 (by decide) hd (fun hd => ?_) (fun hd => ?_)
      · refine g_sub [0] rfl ?_
        exact w_X1_costOf_b69 C E Q _ _ hd
      · refine g_aload_n C dX1_costOf_26 rfl 1 rfl ?_
        refine g_aload_n C dX1_costOf_27 rfl 0 rfl ?_
        obtain ⟨hg, hd⟩ := gd_some hd
        obtain ⟨v6, S5, hc, hd⟩ := bn_some hd
        refine g_cV_v (n := 1) C (gk_X1).1 q1080 q1082 qs14 q95 q1083 (by decide +kernel) (by decide) (by decide) dX1_costOf_28 (As := [vR v1]) (rest := []) rfl rfl (Nat.le_of_ble_eq_true rfl) hg (m_X1_above E hc) ?_
        refine g_ifnull (tgt := 69) C dX1_costOf_31 (by decide) hd (fun hd => ?_) (fun hd => ?_)
        · refine g_sub [0] rfl ?_
          exact w_X1_costOf_b69 C E Q _ _ hd
        · refine g_aload_n C dX1_costOf_34 rfl 1 rfl ?_
          obtain ⟨v7, hv7, hd⟩ := Option.bind_eq_some_iff.mp hd
          refine g_fld C gk_X1 (k := 2) (by decide) q387 (Or.inl rfl) dX1_costOf_35 (gR_v hv7) ?_
          refine g_aload_n C dX1_costOf_38 rfl 0 rfl ?_
          obtain ⟨v8, hv8, hd⟩ := Option.bind_eq_some_iff.mp hd
          refine g_fldN C gk_X2 (k := 0) (by decide) q240 rfl dX1_costOf_39 (gI_v hv8) ?_
          obtain ⟨v9, hv9, hd⟩ := Option.bind_eq_some_iff.mp hd
          refine g_aald C 5 (by decide) dX1_costOf_42 hv9 ?_
          refine g_ifnull (tgt := 65) C dX1_costOf_43 (by decide) hd (fun hd => ?_) (fun hd => ?_)
          · refine g_sub [0] rfl ?_
            exact w_X1_costOf_b65 C E Q _ _ hd
          · refine g_aload_n C dX1_costOf_46 rfl 1 rfl ?_
            obtain ⟨v10, hv10, hd⟩ := Option.bind_eq_some_iff.mp hd
            refine g_fld C gk_X1 (k := 2) (by decide) q387 (Or.inl rfl) dX1_costOf_47 (gR_v hv10) ?_
            refine g_aload_n C dX1_costOf_50 rfl 0 rfl ?_
            obtain ⟨v11, hv11, hd⟩ := Option.bind_eq_some_iff.mp hd
            refine g_fldN C gk_X2 (k := 0) (by decide) q240 rfl dX1_costOf_51 (gI_v hv11) ?_
            obtain ⟨v12, hv12, hd⟩ := Option.bind_eq_some_iff.mp hd
            refine g_aald C 5 (by decide) dX1_costOf_54 hv12 ?_
            obtain ⟨v13, hv13, hd⟩ := Option.bind_eq_some_iff.mp hd
            refine g_fldN C gk_X7 (k := 3) (by decide) q1688 rfl dX1_costOf_55 (gI_v hv13) ?_
            refine g_aload_n C dX1_costOf_58 rfl 0 rfl ?_
            obtain ⟨v14, hv14, hd⟩ := Option.bind_eq_some_iff.mp hd
            refine g_fldN C gk_X2 (k := 4) (by decide) q247 rfl dX1_costOf_59 (gI_v hv14) ?_
            refine g_icmp_eq (tgt := 69) C dX1_costOf_62 (by decide) hd (fun hd => ?_) (fun hd => ?_)
            · refine g_sub [0] rfl ?_
              exact w_X1_costOf_b69 C E Q _ _ hd
            · refine g_sub [0] rfl ?_
              exact w_X1_costOf_b65 C E Q _ _ hd
theorem m_X1_costOf {Γ : GG} {HI : St → Heap → Prop} {l : Launch} (E : EH Γ HI l) {S : St} {a0 : Option Nat} {a1 : Option Nat} {r : Int32} {S1 : St} (h : n_X1_costOf S a0 a1 = some (r, S1)) : MS Γ HI l yX1_costOf cX1_costOf 4 (some (Jvm.ClassFile.FieldType.int)) 8 S [vR a0, vR a1] (.inl (some (vI r))) S1 := by
  refine MS_of E.ntr E.hx (by decide +kernel) rfl (Nat.le_of_ble_eq_true rfl) fun K e1 e2 e3 e4 hnm C Q => ?_
  subst e1; subst e2; subst e3
  exact w_X1_costOf_b0m C E Q S a0 a1 h

def n_X1_next_b8 : Nat → St → Option Nat → Option (Option Nat × St)
  | 0 => fun _ _ => none
  | n + 1 => fun S x1 =>
    gd (grc S x1 13) <|
    bn (h_J29_hasNext S x1) fun v2 S1 =>
    if v2 = 0 then
      some (none, S1)
    else
      gd (grc S1 x1 13) <|
      bn (h_J29_next S1 x1) fun v4 S3 =>
      gd (gcst S3 v4 3) <|
      (gI S3 v4 3 2).bind fun v5 =>
      if v5 = 0 then
        some (v4, S3)
      else
        (n_X1_next_b8 n) S3 x1
def n_X1_next (S : St) (x0 : Option Nat) : Option (Option Nat × St) :=
  (gR S x0 0 3).bind fun v1 =>
  gd (grc S v1 9) <|
  bn (h_J3_iterator S v1) fun v3 S2 =>
  n_X1_next_b8 FU S2 v3
theorem w_X1_next_b8 {K : KT} {r : Option Nat} {S1 : St} (C : GC K RX1 cX1_next 3 7 []) (E : EH (kΓ K) (kHI K) (kl K)) (Q : GQ K (some (Jvm.ClassFile.FieldType.object "SearchKeeper$Act")) (.inl (some (vR r))) S1) : ∀ (n : Nat) (S : St) (x1 : Option Nat), n_X1_next_b8 n S x1 = some (r, S1) → G K 3 S 8 [(1, vR x1)] [] := by
  intro n
  induction n with
  | zero => intro S x1 hd; cases hd
  | succ n ih =>
    intro S x1 hd
    unfold n_X1_next_b8 at hd
    refine g_aload_n C dX1_next_8 rfl 0 rfl ?_
    obtain ⟨hg, hd⟩ := gd_some hd
    obtain ⟨v2, S1, hc, hd⟩ := bn_some hd
    refine g_cF_v (n := 0) C (gk_J29).1 q925 q951 q949 q129 q953 (List.mem_of_getElem? (i := 12) rfl) (by decide +kernel) (by decide) (by decide) dX1_next_9 (As := []) (rest := []) rfl rfl (Nat.le_of_ble_eq_true rfl) hg (mh_J29_hasNext E hc) ?_
    refine g_if_eq (tgt := 39) C dX1_next_14 (by decide) hd (fun hd => ?_) (fun hd => ?_)
    · refine g_null C dX1_next_39 ?_
      exact g_aret C Q (Or.inl ⟨_, rfl⟩) hd dX1_next_40
    · refine g_aload_n C dX1_next_17 rfl 0 rfl ?_
      obtain ⟨hg, hd⟩ := gd_some hd
      obtain ⟨v4, S3, hc, hd⟩ := bn_some hd
      refine g_cF_v (n := 0) C (gk_J29).1 q955 q1047 q1045 q129 q1049 (List.mem_of_getElem? (i := 13) rfl) (by decide +kernel) (by decide) (by decide) dX1_next_18 (As := []) (rest := []) rfl rfl (Nat.le_of_ble_eq_true rfl) hg (mh_J29_next E hc) ?_
      refine g_cast C (gk_X5).1 q1373 dX1_next_23 hd (fun hd => ?_)
      refine g_astore_n (L' := [(2, vR v4), (1, vR x1)]) C dX1_next_26 rfl (by decide) rfl ?_
      refine g_aload_n C dX1_next_27 rfl 0 rfl ?_
      obtain ⟨v5, hv5, hd⟩ := Option.bind_eq_some_iff.mp hd
      refine g_fldN C gk_X5 (k := 2) (by decide) q1383 rfl dX1_next_28 (gI_v hv5) ?_
      refine g_if_ne (tgt := 36) C dX1_next_31 (by decide) hd (fun hd => ?_) (fun hd => ?_)
      · refine g_goto (tgt := 8) C dX1_next_36 (by decide) ?_
        refine g_sub [1] rfl ?_
        exact ih _ _ hd
      · refine g_aload_n C dX1_next_34 rfl 0 rfl ?_
        exact g_aret C Q (Or.inl ⟨_, rfl⟩) hd dX1_next_35
theorem w_X1_next_b0m {K : KT} {r : Option Nat} {S1 : St} (C : GC K RX1 cX1_next 3 7 []) (E : EH (kΓ K) (kHI K) (kl K)) (Q : GQ K (some (Jvm.ClassFile.FieldType.object "SearchKeeper$Act")) (.inl (some (vR r))) S1) : ∀ (S : St) (x0 : Option Nat), n_X1_next S x0 = some (r, S1) → G K 3 S 0 [(0, vR x0)] [] := by
  intro S x0 hd
  unfold n_X1_next at hd
  refine g_aload_n C dX1_next_0 rfl 0 rfl ?_
  obtain ⟨v1, hv1, hd⟩ := Option.bind_eq_some_iff.mp hd
  refine g_fld C gk_X1 (k := 3) (by decide) q388 (Or.inl rfl) dX1_next_1 (gR_v hv1) ?_
  obtain ⟨hg, hd⟩ := gd_some hd
  obtain ⟨v3, S2, hc, hd⟩ := bn_some hd
  refine g_cU_v (n := 0) C (gk_J4).1 q1369 q1370 q843 q1372 q99 q845 rfl (by decide +kernel) (by decide) (by decide) dX1_next_4 (As := []) (rest := []) rfl rfl (Nat.le_of_ble_eq_true rfl) hg (mh_J3_iterator E hc) ?_
  refine g_astore_n (L' := [(1, vR v3), (0, vR x0)]) C dX1_next_7 rfl (by decide) rfl ?_
  refine g_sub [0] rfl ?_
  exact w_X1_next_b8 C E Q FU _ _ hd
theorem m_X1_next {Γ : GG} {HI : St → Heap → Prop} {l : Launch} (E : EH Γ HI l) {S : St} {a0 : Option Nat} {r : Option Nat} {S1 : St} (h : n_X1_next S a0 = some (r, S1)) : MS Γ HI l yX1_next cX1_next 3 (some (Jvm.ClassFile.FieldType.object "SearchKeeper$Act")) 7 S [vR a0] (.inl (some (vR r))) S1 := by
  refine MS_of E.ntr E.hx (by decide +kernel) rfl (Nat.le_of_ble_eq_true rfl) fun K e1 e2 e3 e4 hnm C Q => ?_
  subst e1; subst e2; subst e3
  exact w_X1_next_b0m C E Q S a0 h

def n_X1_doNext_b62 (S : St) (x0 : Option Nat) (x1 : Int32) (x2 : Option Nat) (x3 : Option Nat) (x4 : Option Nat) (y0 : Int32) : Option (Int32 × St) :=
  if y0 = 0 then
    rtI id (Jvm.ClassFile.FieldType.int) (0 : Int32) S
  else
    if y0 ≤ x1 then
      if x2 = none then
        if x3 = none then
          gd (grc S x0 0) <|
          bn (n_X1_crawl S x0 x4) fun _ S1 =>
          rtI id (Jvm.ClassFile.FieldType.int) y0 S1
        else
          (gR S x0 0 3).bind fun v3 =>
          gd (grc S v3 9) <|
          bn (h_J4_remove_2 S v3 x3) fun v5 S4 =>
          gd (grc S4 x0 0) <|
          bn (n_X1_perform S4 x0 x3) fun _ S6 =>
          rtI id (Jvm.ClassFile.FieldType.int) y0 S6
      else
        gd (grc S x0 0) <|
        bn (n_X1_hear S x0 x2) fun _ S8 =>
        rtI id (Jvm.ClassFile.FieldType.int) y0 S8
    else
      rtI id (Jvm.ClassFile.FieldType.int) (0 : Int32) S
def n_X1_doNext_b57 (S : St) (x0 : Option Nat) (x1 : Int32) (x2 : Option Nat) (x3 : Option Nat) (x4 : Option Nat) : Option (Int32 × St) :=
  n_X1_doNext_b62 S x0 x1 x2 x3 x4 (1 : Int32)
def n_X1_doNext_b34 (S : St) (x0 : Option Nat) (x1 : Int32) (x2 : Option Nat) (x3 : Option Nat) (y0 : Option Nat) : Option (Int32 × St) :=
  if x3 = none then
    if x2 = none then
      if y0 = none then
        n_X1_doNext_b62 S x0 x1 x2 x3 y0 (0 : Int32)
      else
        n_X1_doNext_b57 S x0 x1 x2 x3 y0
    else
      n_X1_doNext_b57 S x0 x1 x2 x3 y0
  else
    gd (grc S x0 0) <|
    bn (n_X1_costOf S x0 x3) fun v2 S1 =>
    n_X1_doNext_b62 S1 x0 x1 x2 x3 y0 v2
def n_X1_doNext_b33 (S : St) (x0 : Option Nat) (x1 : Int32) (x2 : Option Nat) (x3 : Option Nat) : Option (Int32 × St) :=
  n_X1_doNext_b34 S x0 x1 x2 x3 none
def n_X1_doNext_b17 (S : St) (x0 : Option Nat) (x1 : Int32) (x2 : Option Nat) (y0 : Option Nat) : Option (Int32 × St) :=
  if x2 = none then
    if y0 = none then
      gd (grc S x0 0) <|
      bn (n_X1_crawling S x0) fun v2 S1 =>
      n_X1_doNext_b34 S1 x0 x1 x2 y0 v2
    else
      n_X1_doNext_b33 S x0 x1 x2 y0
  else
    n_X1_doNext_b33 S x0 x1 x2 y0
def n_X1_doNext (S : St) (x0 : Option Nat) (x1 : Int32) : Option (Int32 × St) :=
  gd (grc S x0 0) <|
  bn (n_X1_telling S x0) fun v2 S1 =>
  if v2 = none then
    gd (grc S1 x0 0) <|
    bn (n_X1_next S1 x0) fun v4 S3 =>
    n_X1_doNext_b17 S3 x0 x1 v2 v4
  else
    n_X1_doNext_b17 S1 x0 x1 v2 none
theorem w_X1_doNext_b62 {K : KT} {r : Int32} {S1 : St} (C : GC K RX1 cX1_doNext 6 38 []) (E : EH (kΓ K) (kHI K) (kl K)) (Q : GQ K (some (Jvm.ClassFile.FieldType.int)) (.inl (some (vI r))) S1) : ∀ (S : St) (x0 : Option Nat) (x1 : Int32) (x2 : Option Nat) (x3 : Option Nat) (x4 : Option Nat) (y0 : Int32), n_X1_doNext_b62 S x0 x1 x2 x3 x4 y0 = some (r, S1) → G K 6 S 62 [(0, vR x0), (1, vI x1), (2, vR x2), (3, vR x3), (4, vR x4)] [vI y0] := by
  intro S x0 x1 x2 x3 x4 y0 hd
  unfold n_X1_doNext_b62 at hd
  refine g_istore (L' := [(5, vI y0), (0, vR x0), (1, vI x1), (2, vR x2), (3, vR x3), (4, vR x4)]) C dX1_doNext_62 (by decide) rfl ?_
  refine g_iload C dX1_doNext_64 0 rfl ?_
  refine g_if_eq (tgt := 75) C dX1_doNext_66 (by decide) hd (fun hd => ?_) (fun hd => ?_)
  · refine g_iconst (v := 0) C dX1_doNext_75 (by decide) ?_
    exact g_iret C Q hd dX1_doNext_76
  · refine g_iload C dX1_doNext_69 0 rfl ?_
    refine g_iload_n C dX1_doNext_71 rfl 2 rfl ?_
    refine g_icmp_le (tgt := 77) C dX1_doNext_72 (by decide) hd (fun hd => ?_) (fun hd => ?_)
    · refine g_aload_n C dX1_doNext_77 rfl 3 rfl ?_
      refine g_ifnull (tgt := 89) C dX1_doNext_78 (by decide) hd (fun hd => ?_) (fun hd => ?_)
      · refine g_aload_n C dX1_doNext_89 rfl 4 rfl ?_
        refine g_ifnull (tgt := 110) C dX1_doNext_90 (by decide) hd (fun hd => ?_) (fun hd => ?_)
        · refine g_aload_n C dX1_doNext_110 rfl 1 rfl ?_
          refine g_aload C dX1_doNext_111 5 rfl ?_
          obtain ⟨hg, hd⟩ := gd_some hd
          obtain ⟨_, S1, hc, hd⟩ := bn_some hd
          refine g_cV_n (n := 1) C (gk_X1).1 q1782 q1784 qs45 q95 q1785 (by decide +kernel) (by decide) (by decide) dX1_doNext_113 (As := [vR x4]) (rest := []) rfl rfl (Nat.le_of_ble_eq_true rfl) hg (m_X1_crawl E hc) ?_
          refine g_iload C dX1_doNext_116 0 rfl ?_
          exact g_iret C Q hd dX1_doNext_118
        · refine g_aload_n C dX1_doNext_93 rfl 1 rfl ?_
          obtain ⟨v3, hv3, hd⟩ := Option.bind_eq_some_iff.mp hd
          refine g_fld C gk_X1 (k := 3) (by decide) q388 (Or.inl rfl) dX1_doNext_94 (gR_v hv3) ?_
          refine g_aload_n C dX1_doNext_97 rfl 4 rfl ?_
          obtain ⟨hg, hd⟩ := gd_some hd
          obtain ⟨v5, S4, hc, hd⟩ := bn_some hd
          refine g_cV_v (n := 1) C (gk_J4).1 q1597 q1598 q1599 q100 q1600 (by decide +kernel) (by decide) (by decide) dX1_doNext_98 (As := [vR x3]) (rest := []) rfl rfl (Nat.le_of_ble_eq_true rfl) hg (mh_J4_remove_2 E hc) ?_
          refine g_pop C dX1_doNext_101 rfl ?_
          refine g_aload_n C dX1_doNext_102 rfl 1 rfl ?_
          refine g_aload_n C dX1_doNext_103 rfl 4 rfl ?_
          obtain ⟨hg, hd⟩ := gd_some hd
          obtain ⟨_, S6, hc, hd⟩ := bn_some hd
          refine g_cV_n (n := 1) C (gk_X1).1 q1637 q1639 qs34 q95 q1640 (by decide +kernel) (by decide) (by decide) dX1_doNext_104 (As := [vR x3]) (rest := []) rfl rfl (Nat.le_of_ble_eq_true rfl) hg (m_X1_perform E hc) ?_
          refine g_goto (tgt := 116) C dX1_doNext_107 (by decide) ?_
          refine g_iload C dX1_doNext_116 0 rfl ?_
          exact g_iret C Q hd dX1_doNext_118
      · refine g_aload_n C dX1_doNext_81 rfl 1 rfl ?_
        refine g_aload_n C dX1_doNext_82 rfl 3 rfl ?_
        obtain ⟨hg, hd⟩ := gd_some hd
        obtain ⟨_, S8, hc, hd⟩ := bn_some hd
        refine g_cV_n (n := 1) C (gk_X1).1 q1585 q1587 qs32 q95 q1588 (by decide +kernel) (by decide) (by decide) dX1_doNext_83 (As := [vR x2]) (rest := []) rfl rfl (Nat.le_of_ble_eq_true rfl) hg (m_X1_hear E hc) ?_
        refine g_goto (tgt := 116) C dX1_doNext_86 (by decide) ?_
        refine g_iload C dX1_doNext_116 0 rfl ?_
        exact g_iret C Q hd dX1_doNext_118
    · refine g_iconst (v := 0) C dX1_doNext_75 (by decide) ?_
      exact g_iret C Q hd dX1_doNext_76
theorem w_X1_doNext_b57 {K : KT} {r : Int32} {S1 : St} (C : GC K RX1 cX1_doNext 6 38 []) (E : EH (kΓ K) (kHI K) (kl K)) (Q : GQ K (some (Jvm.ClassFile.FieldType.int)) (.inl (some (vI r))) S1) : ∀ (S : St) (x0 : Option Nat) (x1 : Int32) (x2 : Option Nat) (x3 : Option Nat) (x4 : Option Nat), n_X1_doNext_b57 S x0 x1 x2 x3 x4 = some (r, S1) → G K 6 S 57 [(0, vR x0), (1, vI x1), (2, vR x2), (3, vR x3), (4, vR x4)] [] := by
  intro S x0 x1 x2 x3 x4 hd
  unfold n_X1_doNext_b57 at hd
  refine g_iconst (v := 1) C dX1_doNext_57 (by decide) ?_
  refine g_goto (tgt := 62) C dX1_doNext_58 (by decide) ?_
  refine g_sub [0, 1, 2, 3, 4] rfl ?_
  exact w_X1_doNext_b62 C E Q _ _ _ _ _ _ _ hd
theorem w_X1_doNext_b34 {K : KT} {r : Int32} {S1 : St} (C : GC K RX1 cX1_doNext 6 38 []) (E : EH (kΓ K) (kHI K) (kl K)) (Q : GQ K (some (Jvm.ClassFile.FieldType.int)) (.inl (some (vI r))) S1) : ∀ (S : St) (x0 : Option Nat) (x1 : Int32) (x2 : Option Nat) (x3 : Option Nat) (y0 : Option Nat), n_X1_doNext_b34 S x0 x1 x2 x3 y0 = some (r, S1) → G K 6 S 34 [(0, vR x0), (1, vI x1), (2, vR x2), (3, vR x3)] [vR y0] := by
  intro S x0 x1 x2 x3 y0 hd
  unfold n_X1_doNext_b34 at hd
  refine g_astore (L' := [(4, vR y0), (0, vR x0), (1, vI x1), (2, vR x2), (3, vR x3)]) C dX1_doNext_34 (by decide) rfl ?_
  refine g_aload_n C dX1_doNext_36 rfl 4 rfl ?_
  refine g_ifnull (tgt := 48) C dX1_doNext_37 (by decide) hd (fun hd => ?_) (fun hd => ?_)
  · refine g_aload_n C dX1_doNext_48 rfl 3 rfl ?_
    refine g_ifnonnull (tgt := 57) C dX1_doNext_49 (by decide) hd (fun hd => ?_) (fun hd => ?_)
    · refine g_sub [1, 2, 3, 4, 0] rfl ?_
      exact w_X1_doNext_b57 C E Q _ _ _ _ _ _ hd
    · refine g_aload C dX1_doNext_52 0 rfl ?_
      refine g_ifnull (tgt := 61) C dX1_doNext_54 (by decide) hd (fun hd => ?_) (fun hd => ?_)
      · refine g_iconst (v := 0) C dX1_doNext_61 (by decide) ?_
        refine g_sub [1, 2, 3, 4, 0] rfl ?_
        exact w_X1_doNext_b62 C E Q _ _ _ _ _ _ _ hd
      · refine g_sub [1, 2, 3, 4, 0] rfl ?_
        exact w_X1_doNext_b57 C E Q _ _ _ _ _ _ hd
  · refine g_aload_n C dX1_doNext_40 rfl 1 rfl ?_
    refine g_aload_n C dX1_doNext_41 rfl 4 rfl ?_
    obtain ⟨hg, hd⟩ := gd_some hd
    obtain ⟨v2, S1, hc, hd⟩ := bn_some hd
    refine g_cV_v (n := 1) C (gk_X1).1 q1581 q1583 qs31 q95 q1584 (by decide +kernel) (by decide) (by decide) dX1_doNext_42 (As := [vR x3]) (rest := []) rfl rfl (Nat.le_of_ble_eq_true rfl) hg (m_X1_costOf E hc) ?_
    refine g_goto (tgt := 62) C dX1_doNext_45 (by decide) ?_
    refine g_sub [1, 2, 3, 4, 0] rfl ?_
    exact w_X1_doNext_b62 C E Q _ _ _ _ _ _ _ hd
theorem w_X1_doNext_b33 {K : KT} {r : Int32} {S1 : St} (C : GC K RX1 cX1_doNext 6 38 []) (E : EH (kΓ K) (kHI K) (kl K)) (Q : GQ K (some (Jvm.ClassFile.FieldType.int)) (.inl (some (vI r))) S1) : ∀ (S : St) (x0 : Option Nat) (x1 : Int32) (x2 : Option Nat) (x3 : Option Nat), n_X1_doNext_b33 S x0 x1 x2 x3 = some (r, S1) → G K 6 S 33 [(0, vR x0), (1, vI x1), (2, vR x2), (3, vR x3)] [] := by
  intro S x0 x1 x2 x3 hd
  unfold n_X1_doNext_b33 at hd
  refine g_null C dX1_doNext_33 ?_
  refine g_sub [0, 1, 2, 3] rfl ?_
  exact w_X1_doNext_b34 C E Q _ _ _ _ _ _ hd
theorem w_X1_doNext_b17 {K : KT} {r : Int32} {S1 : St} (C : GC K RX1 cX1_doNext 6 38 []) (E : EH (kΓ K) (kHI K) (kl K)) (Q : GQ K (some (Jvm.ClassFile.FieldType.int)) (.inl (some (vI r))) S1) : ∀ (S : St) (x0 : Option Nat) (x1 : Int32) (x2 : Option Nat) (y0 : Option Nat), n_X1_doNext_b17 S x0 x1 x2 y0 = some (r, S1) → G K 6 S 17 [(0, vR x0), (1, vI x1), (2, vR x2)] [vR y0] := by
  intro S x0 x1 x2 y0 hd
  unfold n_X1_doNext_b17 at hd
  refine g_astore_n (L' := [(3, vR y0), (0, vR x0), (1, vI x1), (2, vR x2)]) C dX1_doNext_17 rfl (by decide) rfl ?_
  refine g_aload_n C dX1_doNext_18 rfl 3 rfl ?_
  refine g_ifnonnull (tgt := 33) C dX1_doNext_19 (by decide) hd (fun hd => ?_) (fun hd => ?_)
  · refine g_sub [1, 2, 3, 0] rfl ?_
    exact w_X1_doNext_b33 C E Q _ _ _ _ _ hd
  · refine g_aload_n C dX1_doNext_22 rfl 0 rfl ?_
    refine g_ifnonnull (tgt := 33) C dX1_doNext_23 (by decide) hd (fun hd => ?_) (fun hd => ?_)
    · refine g_sub [1, 2, 3, 0] rfl ?_
      exact w_X1_doNext_b33 C E Q _ _ _ _ _ hd
    · refine g_aload_n C dX1_doNext_26 rfl 1 rfl ?_
      obtain ⟨hg, hd⟩ := gd_some hd
      obtain ⟨v2, S1, hc, hd⟩ := bn_some hd
      refine g_cV_v (n := 0) C (gk_X1).1 q1068 q1070 qs13 q95 q1071 (by decide +kernel) (by decide) (by decide) dX1_doNext_27 (As := []) (rest := []) rfl rfl (Nat.le_of_ble_eq_true rfl) hg (m_X1_crawling E hc) ?_
      refine g_goto (tgt := 34) C dX1_doNext_30 (by decide) ?_
      refine g_sub [1, 2, 3, 0] rfl ?_
      exact w_X1_doNext_b34 C E Q _ _ _ _ _ _ hd
theorem w_X1_doNext_b0m {K : KT} {r : Int32} {S1 : St} (C : GC K RX1 cX1_doNext 6 38 []) (E : EH (kΓ K) (kHI K) (kl K)) (Q : GQ K (some (Jvm.ClassFile.FieldType.int)) (.inl (some (vI r))) S1) : ∀ (S : St) (x0 : Option Nat) (x1 : Int32), n_X1_doNext S x0 x1 = some (r, S1) → G K 6 S 0 [(0, vR x0), (1, vI x1)] [] := by
  intro S x0 x1 hd
  unfold n_X1_doNext at hd
  refine g_aload_n C dX1_doNext_0 rfl 0 rfl ?_
  obtain ⟨hg, hd⟩ := gd_some hd
  obtain ⟨v2, S1, hc, hd⟩ := bn_some hd
  refine g_cV_v (n := 0) C (gk_X1).1 q807 q809 qs8 q95 q810 (by decide +kernel) (by decide) (by decide) dX1_doNext_1 (As := []) (rest := []) rfl rfl (Nat.le_of_ble_eq_true rfl) hg (m_X1_telling E hc) ?_
  refine g_astore_n (L' := [(2, vR v2), (0, vR x0), (1, vI x1)]) C dX1_doNext_4 rfl (by decide) rfl ?_
  refine g_aload_n C dX1_doNext_5 rfl 0 rfl ?_
  refine g_ifnonnull (tgt := 16) C dX1_doNext_6 (by decide) hd (fun hd => ?_) (fun hd => ?_)
  · refine g_null C dX1_doNext_16 ?_
    refine g_sub [1, 2, 0] rfl ?_
    exact w_X1_doNext_b17 C E Q _ _ _ _ _ hd
  · refine g_aload_n C dX1_doNext_9 rfl 1 rfl ?_
    obtain ⟨hg, hd⟩ := gd_some hd
    obtain ⟨v4, S3, hc, hd⟩ := bn_some hd
    refine g_cV_v (n := 0) C (gk_X1).1 q1577 q1579 qs30 q95 q1580 (by decide +kernel) (by decide) (by decide) dX1_doNext_10 (As := []) (rest := []) rfl rfl (Nat.le_of_ble_eq_true rfl) hg (m_X1_next E hc) ?_
    refine g_goto (tgt := 17) C dX1_doNext_13 (by decide) ?_
    refine g_sub [1, 2, 0] rfl ?_
    exact w_X1_doNext_b17 C E Q _ _ _ _ _ hd
theorem m_X1_doNext {Γ : GG} {HI : St → Heap → Prop} {l : Launch} (E : EH Γ HI l) {S : St} {a0 : Option Nat} {a1 : Int32} {r : Int32} {S1 : St} (h : n_X1_doNext S a0 a1 = some (r, S1)) : MS Γ HI l yX1_doNext cX1_doNext 6 (some (Jvm.ClassFile.FieldType.int)) 38 S [vR a0, vI a1] (.inl (some (vI r))) S1 := by
  refine MS_of E.ntr E.hx (by decide +kernel) rfl (Nat.le_of_ble_eq_true rfl) fun K e1 e2 e3 e4 hnm C Q => ?_
  subst e1; subst e2; subst e3
  exact w_X1_doNext_b0m C E Q S a0 a1 h

def n_X1_work_b115 : Nat → St → Option Nat → Int32 → Option Nat → Option ((Int32 ⊕ String) × St)
  | 0 => fun _ _ _ _ => none
  | n + 1 => fun S x0 x3 x5 =>
    gd (grc S x5 13) <|
    bn (h_J29_hasNext S x5) fun v2 S1 =>
    if v2 = 0 then
      gd (grc S1 x0 0) <|
      bn (n_X1_store S1 x0) fun _ S3 =>
      rtI Sum.inl (Jvm.ClassFile.FieldType.int) x3 S3
    else
      gd (grc S1 x5 13) <|
      bn (h_J29_next S1 x5) fun v6 S5 =>
      gd (gcst S5 v6 3) <|
      (pI .boolean S5 v6 3 2 (0 : Int32)).bind fun S7 =>
      (n_X1_work_b115 n) S7 x0 x3 x5
def n_X1_work_b102 (S : St) (x0 : Option Nat) (x3 : Int32) (y0 : Int32) (y1 : Int32) (y2 : Option Nat) : Option ((Int32 ⊕ String) × St) :=
  (pI .int S y2 0 9 (y1 + y0)).bind fun S1 =>
  (gR S1 x0 0 3).bind fun v2 =>
  gd (grc S1 v2 9) <|
  bn (h_J3_iterator S1 v2) fun v4 S3 =>
  n_X1_work_b115 FU S3 x0 x3 v4
def n_X1_work_b66 : Nat → St → Option Nat → Int32 → Int32 → Option ((Int32 ⊕ String) × St)
  | 0 => fun _ _ _ _ => none
  | n + 1 => fun S x0 x2 x3 =>
    gd (grc S x0 0) <|
    bn (n_X1_doNext S x0 (x2 - x3)) fun v2 S1 =>
    if 0 < v2 then
      (n_X1_work_b66 n) S1 x0 x2 (x3 + v2)
    else
      (gI S1 x0 0 9).bind fun v3 =>
      (gI S1 x0 0 7).bind fun v4 =>
      if v4 = 0 then
        n_X1_work_b102 S1 x0 (x3 + v2) (0 : Int32) v3 x0
      else
        n_X1_work_b102 S1 x0 (x3 + v2) (x3 + v2) v3 x0
def n_X1_work_b63 (S : St) (x0 : Option Nat) (y0 : Int32) : Option ((Int32 ⊕ String) × St) :=
  n_X1_work_b66 FU S x0 y0 (0 : Int32)
def n_X1_work_b41 (S : St) (x0 : Option Nat) (x1 : Int32) : Option ((Int32 ⊕ String) × St) :=
  (gI S x0 0 7).bind fun v1 =>
  if v1 = 0 then
    n_X1_work_b63 S x0 x1
  else
    (gI S x0 0 9).bind fun v2 =>
    bn (n_J7_min S x1 ((20 : Int32) - v2)) fun v4 S3 =>
    n_X1_work_b63 S3 x0 v4
def n_X1_work (S : St) (x0 : Option Nat) (x1 : Int32) : Option ((Int32 ⊕ String) × St) :=
  bn (n_X1_isIn S x1 (1 : Int32) (500 : Int32)) fun v2 S1 =>
  tbn (n_X1_check S1 v2) fun _ S3 =>
  (gI S3 x0 0 8).bind fun v5 =>
  (gI S3 x0 0 6).bind fun v6 =>
  if (60 : Int32) = 0 then none else
  if v5 = (v6 / (60 : Int32)) then
    n_X1_work_b41 S3 x0 x1
  else
    (gI S3 x0 0 6).bind fun v7 =>
    if (60 : Int32) = 0 then none else
    (pI .int S3 x0 0 8 (v7 / (60 : Int32))).bind fun S8 =>
    (pI .int S8 x0 0 9 (0 : Int32)).bind fun S9 =>
    n_X1_work_b41 S9 x0 x1
theorem w_X1_work_b115 {K : KT} {r : (Int32 ⊕ String)} {S1 : St} (C : GC K RX1 cX1_work 7 39 []) (E : EH (kΓ K) (kHI K) (kl K)) (Q : GQ K (some (Jvm.ClassFile.FieldType.int)) (resI r) S1) : ∀ (n : Nat) (S : St) (x0 : Option Nat) (x3 : Int32) (x5 : Option Nat), n_X1_work_b115 n S x0 x3 x5 = some (r, S1) → G K 7 S 115 [(0, vR x0), (3, vI x3), (5, vR x5)] [] := by
  intro n
  induction n with
  | zero => intro S x0 x3 x5 hd; cases hd
  | succ n ih =>
    intro S x0 x3 x5 hd
    unfold n_X1_work_b115 at hd
    refine g_aload C dX1_work_115 2 rfl ?_
    obtain ⟨hg, hd⟩ := gd_some hd
    obtain ⟨v2, S1, hc, hd⟩ := bn_some hd
    refine g_cF_v (n := 0) C (gk_J29).1 q925 q951 q949 q129 q953 (List.mem_of_getElem? (i := 12) rfl) (by decide +kernel) (by decide) (by decide) dX1_work_117 (As := []) (rest := []) rfl rfl (Nat.le_of_ble_eq_true rfl) hg (mh_J29_hasNext E hc) ?_
    refine g_if_eq (tgt := 146) C dX1_work_122 (by decide) hd (fun hd => ?_) (fun hd => ?_)
    · refine g_aload_n C dX1_work_146 rfl 0 rfl ?_
      obtain ⟨hg, hd⟩ := gd_some hd
      obtain ⟨_, S3, hc, hd⟩ := bn_some hd
      refine g_cV_n (n := 0) C (gk_X1).1 q1811 q1813 qs46 q95 q1814 (by decide +kernel) (by decide) (by decide) dX1_work_147 (As := []) (rest := []) rfl rfl (Nat.le_of_ble_eq_true rfl) hg (m_X1_store E hc) ?_
      refine g_iload_n C dX1_work_150 rfl 1 rfl ?_
      exact g_iretT C Q hd dX1_work_151
    · refine g_aload C dX1_work_125 2 rfl ?_
      obtain ⟨hg, hd⟩ := gd_some hd
      obtain ⟨v6, S5, hc, hd⟩ := bn_some hd
      refine g_cF_v (n := 0) C (gk_J29).1 q955 q1047 q1045 q129 q1049 (List.mem_of_getElem? (i := 13) rfl) (by decide +kernel) (by decide) (by decide) dX1_work_127 (As := []) (rest := []) rfl rfl (Nat.le_of_ble_eq_true rfl) hg (mh_J29_next E hc) ?_
      refine g_cast C (gk_X5).1 q1373 dX1_work_132 hd (fun hd => ?_)
      refine g_astore (L' := [(6, vR v6), (0, vR x0), (3, vI x3), (5, vR x5)]) C dX1_work_135 (by decide) rfl ?_
      refine g_aload C dX1_work_137 0 rfl ?_
      refine g_iconst (v := 0) C dX1_work_139 (by decide) ?_
      obtain ⟨S7, hS7, hd⟩ := Option.bind_eq_some_iff.mp hd
      refine g_putN C gk_X5 (k := 2) (by decide) q1383 rfl rfl dX1_work_140 (gfit_ok (pI_v hS7).1).1 (gfit_ok (pI_v hS7).1).2 (pI_v hS7).2 ?_
      refine g_goto (tgt := 115) C dX1_work_143 (by decide) ?_
      refine g_sub [1, 2, 3] rfl ?_
      exact ih _ _ _ _ hd
theorem w_X1_work_b102 {K : KT} {r : (Int32 ⊕ String)} {S1 : St} (C : GC K RX1 cX1_work 7 39 []) (E : EH (kΓ K) (kHI K) (kl K)) (Q : GQ K (some (Jvm.ClassFile.FieldType.int)) (resI r) S1) : ∀ (S : St) (x0 : Option Nat) (x3 : Int32) (y0 : Int32) (y1 : Int32) (y2 : Option Nat), n_X1_work_b102 S x0 x3 y0 y1 y2 = some (r, S1) → G K 7 S 102 [(0, vR x0), (3, vI x3)] [vI y0, vI y1, vR y2] := by
  intro S x0 x3 y0 y1 y2 hd
  unfold n_X1_work_b102 at hd
  refine g_iadd C dX1_work_102 ?_
  obtain ⟨S1, hS1, hd⟩ := Option.bind_eq_some_iff.mp hd
  refine g_put C gk_X1 (k := 9) (by decide) q394 (Or.inl rfl) rfl dX1_work_103 (gfit_ok (pI_v hS1).1).1 (gfit_ok (pI_v hS1).1).2 (pI_v hS1).2 ?_
  refine g_aload_n C dX1_work_106 rfl 0 rfl ?_
  obtain ⟨v2, hv2, hd⟩ := Option.bind_eq_some_iff.mp hd
  refine g_fld C gk_X1 (k := 3) (by decide) q388 (Or.inl rfl) dX1_work_107 (gR_v hv2) ?_
  obtain ⟨hg, hd⟩ := gd_some hd
  obtain ⟨v4, S3, hc, hd⟩ := bn_some hd
  refine g_cU_v (n := 0) C (gk_J4).1 q1369 q1370 q843 q1372 q99 q845 rfl (by decide +kernel) (by decide) (by decide) dX1_work_110 (As := []) (rest := []) rfl rfl (Nat.le_of_ble_eq_true rfl) hg (mh_J3_iterator E hc) ?_
  refine g_astore (L' := [(5, vR v4), (0, vR x0), (3, vI x3)]) C dX1_work_113 (by decide) rfl ?_
  refine g_sub [1, 2, 0] rfl ?_
  exact w_X1_work_b115 C E Q FU _ _ _ _ hd
theorem w_X1_work_b66 {K : KT} {r : (Int32 ⊕ String)} {S1 : St} (C : GC K RX1 cX1_work 7 39 []) (E : EH (kΓ K) (kHI K) (kl K)) (Q : GQ K (some (Jvm.ClassFile.FieldType.int)) (resI r) S1) : ∀ (n : Nat) (S : St) (x0 : Option Nat) (x2 : Int32) (x3 : Int32), n_X1_work_b66 n S x0 x2 x3 = some (r, S1) → G K 7 S 66 [(0, vR x0), (2, vI x2), (3, vI x3)] [] := by
  intro n
  induction n with
  | zero => intro S x0 x2 x3 hd; cases hd
  | succ n ih =>
    intro S x0 x2 x3 hd
    unfold n_X1_work_b66 at hd
    refine g_aload_n C dX1_work_66 rfl 0 rfl ?_
    refine g_iload_n C dX1_work_67 rfl 1 rfl ?_
    refine g_iload_n C dX1_work_68 rfl 2 rfl ?_
    refine g_isub C dX1_work_69 ?_
    obtain ⟨hg, hd⟩ := gd_some hd
    obtain ⟨v2, S1, hc, hd⟩ := bn_some hd
    refine g_cV_v (n := 1) C (gk_X1).1 q1573 q1575 qs29 q95 q1576 (by decide +kernel) (by decide) (by decide) dX1_work_70 (As := [vI (x2 - x3)]) (rest := []) rfl rfl (Nat.le_of_ble_eq_true rfl) hg (m_X1_doNext E hc) ?_
    refine g_istore (L' := [(4, vI v2), (0, vR x0), (2, vI x2), (3, vI x3)]) C dX1_work_73 (by decide) rfl ?_
    refine g_iload_n C dX1_work_75 rfl 3 rfl ?_
    refine g_iload C dX1_work_76 0 rfl ?_
    refine g_iadd C dX1_work_78 ?_
    refine g_istore_n (L' := [(3, vI (x3 + v2)), (4, vI v2), (0, vR x0), (2, vI x2)]) C dX1_work_79 rfl (by decide) rfl ?_
    refine g_iload C dX1_work_80 1 rfl ?_
    refine g_if_gt (tgt := 66) C dX1_work_82 (by decide) hd (fun hd => ?_) (fun hd => ?_)
    · refine g_sub [2, 3, 0] rfl ?_
      exact ih _ _ _ _ hd
    · refine g_aload_n C dX1_work_85 rfl 2 rfl ?_
      refine g_dup C dX1_work_86 rfl ?_
      obtain ⟨v3, hv3, hd⟩ := Option.bind_eq_some_iff.mp hd
      refine g_fld C gk_X1 (k := 9) (by decide) q394 (Or.inl rfl) dX1_work_87 (gI_v hv3) ?_
      refine g_aload_n C dX1_work_90 rfl 2 rfl ?_
      obtain ⟨v4, hv4, hd⟩ := Option.bind_eq_some_iff.mp hd
      refine g_fld C gk_X1 (k := 7) (by decide) q392 (Or.inl rfl) dX1_work_91 (gI_v hv4) ?_
      refine g_if_eq (tgt := 101) C dX1_work_94 (by decide) hd (fun hd => ?_) (fun hd => ?_)
      · refine g_iconst (v := 0) C dX1_work_101 (by decide) ?_
        refine g_sub [2, 0] rfl ?_
        exact w_X1_work_b102 C E Q _ _ _ _ _ _ hd
      · refine g_iload_n C dX1_work_97 rfl 0 rfl ?_
        refine g_goto (tgt := 102) C dX1_work_98 (by decide) ?_
        refine g_sub [2, 0] rfl ?_
        exact w_X1_work_b102 C E Q _ _ _ _ _ _ hd
theorem w_X1_work_b63 {K : KT} {r : (Int32 ⊕ String)} {S1 : St} (C : GC K RX1 cX1_work 7 39 []) (E : EH (kΓ K) (kHI K) (kl K)) (Q : GQ K (some (Jvm.ClassFile.FieldType.int)) (resI r) S1) : ∀ (S : St) (x0 : Option Nat) (y0 : Int32), n_X1_work_b63 S x0 y0 = some (r, S1) → G K 7 S 63 [(0, vR x0)] [vI y0] := by
  intro S x0 y0 hd
  unfold n_X1_work_b63 at hd
  refine g_istore_n (L' := [(2, vI y0), (0, vR x0)]) C dX1_work_63 rfl (by decide) rfl ?_
  refine g_iconst (v := 0) C dX1_work_64 (by decide) ?_
  refine g_istore_n (L' := [(3, vI (0 : Int32)), (2, vI y0), (0, vR x0)]) C dX1_work_65 rfl (by decide) rfl ?_
  refine g_sub [2, 1, 0] rfl ?_
  exact w_X1_work_b66 C E Q FU _ _ _ _ hd
theorem w_X1_work_b41 {K : KT} {r : (Int32 ⊕ String)} {S1 : St} (C : GC K RX1 cX1_work 7 39 []) (E : EH (kΓ K) (kHI K) (kl K)) (Q : GQ K (some (Jvm.ClassFile.FieldType.int)) (resI r) S1) : ∀ (S : St) (x0 : Option Nat) (x1 : Int32), n_X1_work_b41 S x0 x1 = some (r, S1) → G K 7 S 41 [(0, vR x0), (1, vI x1)] [] := by
  intro S x0 x1 hd
  unfold n_X1_work_b41 at hd
  refine g_aload_n C dX1_work_41 rfl 0 rfl ?_
  obtain ⟨v1, hv1, hd⟩ := Option.bind_eq_some_iff.mp hd
  refine g_fld C gk_X1 (k := 7) (by decide) q392 (Or.inl rfl) dX1_work_42 (gI_v hv1) ?_
  refine g_if_eq (tgt := 62) C dX1_work_45 (by decide) hd (fun hd => ?_) (fun hd => ?_)
  · refine g_iload_n C dX1_work_62 rfl 1 rfl ?_
    refine g_sub [0] rfl ?_
    exact w_X1_work_b63 C E Q _ _ _ hd
  · refine g_iload_n C dX1_work_48 rfl 1 rfl ?_
    refine g_bipush (v := 20) C dX1_work_49 (by decide) ?_
    refine g_aload_n C dX1_work_51 rfl 0 rfl ?_
    obtain ⟨v2, hv2, hd⟩ := Option.bind_eq_some_iff.mp hd
    refine g_fld C gk_X1 (k := 9) (by decide) q394 (Or.inl rfl) dX1_work_52 (gI_v hv2) ?_
    refine g_isub C dX1_work_55 ?_
    obtain ⟨v4, S3, hc, hd⟩ := bn_some hd
    refine g_cS_v (n := 2) C q1572 q347 q104 q348 (by decide +kernel) (by decide) (by decide) dX1_work_56 (As := [vI x1, vI ((20 : Int32) - v2)]) (rest := []) rfl rfl (Nat.le_of_ble_eq_true rfl) (m_J7_min E.lo hc) ?_
    refine g_goto (tgt := 63) C dX1_work_59 (by decide) ?_
    refine g_sub [0] rfl ?_
    exact w_X1_work_b63 C E Q _ _ _ hd
theorem w_X1_work_b0m {K : KT} {r : (Int32 ⊕ String)} {S1 : St} (C : GC K RX1 cX1_work 7 39 []) (E : EH (kΓ K) (kHI K) (kl K)) (Q : GQ K (some (Jvm.ClassFile.FieldType.int)) (resI r) S1) : ∀ (S : St) (x0 : Option Nat) (x1 : Int32), n_X1_work S x0 x1 = some (r, S1) → G K 7 S 0 [(0, vR x0), (1, vI x1)] [] := by
  intro S x0 x1 hd
  unfold n_X1_work at hd
  refine g_iload_n C dX1_work_0 rfl 1 rfl ?_
  refine g_iconst (v := 1) C dX1_work_1 (by decide) ?_
  refine g_sipush (v := 500) C dX1_work_2 (by decide) ?_
  obtain ⟨v2, S1, hc, hd⟩ := bn_some hd
  refine g_cS_v (n := 3) C q1130 q1131 q95 q1132 (by decide +kernel) (by decide) (by decide) dX1_work_5 (As := [vI x1, vI (1 : Int32), vI (500 : Int32)]) (rest := []) rfl rfl (Nat.le_of_ble_eq_true rfl) (m_X1_isIn E hc) ?_
  rcases tbn_some hd with ⟨X9, S3, hc, hz⟩ | ⟨_, S3, hc, hd⟩
  · cases hz; exact g_cS_x (n := 1) C q1150 q1151 q95 q1152 (by decide +kernel) (by decide) (by decide) dX1_work_8 (As := [vI v2]) (rest := []) rfl rfl (Nat.le_of_ble_eq_true rfl) (m_X1_check E hc) (g_out C Q)
  refine g_cS_n (n := 1) C q1150 q1151 q95 q1152 (by decide +kernel) (by decide) (by decide) dX1_work_8 (As := [vI v2]) (rest := []) rfl rfl (Nat.le_of_ble_eq_true rfl) (m_X1_check E hc) ?_
  refine g_aload_n C dX1_work_11 rfl 0 rfl ?_
  obtain ⟨v5, hv5, hd⟩ := Option.bind_eq_some_iff.mp hd
  refine g_fld C gk_X1 (k := 8) (by decide) q393 (Or.inl rfl) dX1_work_12 (gI_v hv5) ?_
  refine g_aload_n C dX1_work_15 rfl 0 rfl ?_
  obtain ⟨v6, hv6, hd⟩ := Option.bind_eq_some_iff.mp hd
  refine g_fld C gk_X1 (k := 6) (by decide) q391 (Or.inl rfl) dX1_work_16 (gI_v hv6) ?_
  refine g_bipush (v := 60) C dX1_work_19 (by decide) ?_
  refine g_idiv C dX1_work_21 hd (fun hd => ?_)
  refine g_icmp_eq (tgt := 41) C dX1_work_22 (by decide) hd (fun hd => ?_) (fun hd => ?_)
  · refine g_sub [0, 1] rfl ?_
    exact w_X1_work_b41 C E Q _ _ _ hd
  · refine g_aload_n C dX1_work_25 rfl 0 rfl ?_
    refine g_aload_n C dX1_work_26 rfl 0 rfl ?_
    obtain ⟨v7, hv7, hd⟩ := Option.bind_eq_some_iff.mp hd
    refine g_fld C gk_X1 (k := 6) (by decide) q391 (Or.inl rfl) dX1_work_27 (gI_v hv7) ?_
    refine g_bipush (v := 60) C dX1_work_30 (by decide) ?_
    refine g_idiv C dX1_work_32 hd (fun hd => ?_)
    obtain ⟨S8, hS8, hd⟩ := Option.bind_eq_some_iff.mp hd
    refine g_put C gk_X1 (k := 8) (by decide) q393 (Or.inl rfl) rfl dX1_work_33 (gfit_ok (pI_v hS8).1).1 (gfit_ok (pI_v hS8).1).2 (pI_v hS8).2 ?_
    refine g_aload_n C dX1_work_36 rfl 0 rfl ?_
    refine g_iconst (v := 0) C dX1_work_37 (by decide) ?_
    obtain ⟨S9, hS9, hd⟩ := Option.bind_eq_some_iff.mp hd
    refine g_put C gk_X1 (k := 9) (by decide) q394 (Or.inl rfl) rfl dX1_work_38 (gfit_ok (pI_v hS9).1).1 (gfit_ok (pI_v hS9).1).2 (pI_v hS9).2 ?_
    refine g_sub [0, 1] rfl ?_
    exact w_X1_work_b41 C E Q _ _ _ hd
theorem m_X1_work {Γ : GG} {HI : St → Heap → Prop} {l : Launch} (E : EH Γ HI l) {S : St} {a0 : Option Nat} {a1 : Int32} {r : (Int32 ⊕ String)} {S1 : St} (h : n_X1_work S a0 a1 = some (r, S1)) : MS Γ HI l yX1_work cX1_work 7 (some (Jvm.ClassFile.FieldType.int)) 39 S [vR a0, vI a1] (resI r) S1 := by
  refine MS_of E.ntr E.hx (by decide +kernel) rfl (Nat.le_of_ble_eq_true rfl) fun K e1 e2 e3 e4 hnm C Q => ?_
  subst e1; subst e2; subst e3
  exact w_X1_work_b0m C E Q S a0 a1 h

