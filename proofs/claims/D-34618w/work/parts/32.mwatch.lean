/-! the reference: watch, notices, twice, lose, pass, battery, limits, crawl, acts_2, isQuiet, entries, edition, stale, segments, dead -/
def n_X3_beginsCrawl_b31 : Nat → St → Option Nat → Int32 → Int32 → Option (Unit × St)
  | 0 => fun _ _ _ _ => none
  | n + 1 => fun S x0 x1 x2 =>
    if (60 : Int32) ≤ x2 then
      some ((), S)
    else
      (gR S x0 15 21).bind fun v1 =>
      (sI S v1 1 (((60 : Int32) * x1) + x2) (0 : Int32)).bind fun S2 =>
      (n_X3_beginsCrawl_b31 n) S2 x0 x1 (x2 + 1)
def n_X3_beginsCrawl (S : St) (x0 : Option Nat) (x1 : Int32) : Option (Unit × St) :=
  (gR S x0 15 18).bind fun v1 =>
  (sI S v1 1 x1 (1 : Int32)).bind fun S2 =>
  (gR S2 x0 15 19).bind fun v3 =>
  (sI S2 v3 0 x1 (1 : Int32)).bind fun S4 =>
  (gR S4 x0 15 20).bind fun v5 =>
  (gR S4 x0 15 13).bind fun v6 =>
  (aI S4 v6 0 x1).bind fun v7 =>
  (sI S4 v5 0 ((60 : Int32) * x1) v7).bind fun S8 =>
  n_X3_beginsCrawl_b31 FU S8 x0 x1 (0 : Int32)
theorem w_X3_beginsCrawl_b31 {K : KT} {r : Unit} {S1 : St} (C : GC K RX3 cX3_beginsCrawl 3 2 []) (E : EH (kΓ K) (kHI K) (kl K)) (Q : GQ K none (.inl none) S1) : ∀ (n : Nat) (S : St) (x0 : Option Nat) (x1 : Int32) (x2 : Int32), n_X3_beginsCrawl_b31 n S x0 x1 x2 = some (r, S1) → G K 3 S 31 [(0, vR x0), (1, vI x1), (2, vI x2)] [] := by
  intro n
  induction n with
  | zero => intro S x0 x1 x2 hd; cases hd
  | succ n ih =>
    intro S x0 x1 x2 hd
    unfold n_X3_beginsCrawl_b31 at hd
    refine g_iload_n C dX3_beginsCrawl_31 rfl 2 rfl ?_
    refine g_bipush (v := 60) C dX3_beginsCrawl_32 (by decide) ?_
    refine g_icmp_ge (tgt := 55) C dX3_beginsCrawl_34 (by decide) hd (fun hd => ?_) (fun hd => ?_)
    · exact g_vret C Q hd dX3_beginsCrawl_55
    · refine g_aload_n C dX3_beginsCrawl_37 rfl 0 rfl ?_
      obtain ⟨v1, hv1, hd⟩ := Option.bind_eq_some_iff.mp hd
      refine g_fld C gk_X3 (k := 21) (by decide) q1987 (Or.inl rfl) dX3_beginsCrawl_38 (gR_v hv1) ?_
      refine g_bipush (v := 60) C dX3_beginsCrawl_41 (by decide) ?_
      refine g_iload_n C dX3_beginsCrawl_43 rfl 1 rfl ?_
      refine g_imul C dX3_beginsCrawl_44 ?_
      refine g_iload_n C dX3_beginsCrawl_45 rfl 2 rfl ?_
      refine g_iadd C dX3_beginsCrawl_46 ?_
      refine g_iconst (v := 0) C dX3_beginsCrawl_47 (by decide) ?_
      obtain ⟨S2, hS2, hd⟩ := Option.bind_eq_some_iff.mp hd
      refine g_zastV C dX3_beginsCrawl_48 hS2 ?_
      refine g_iinc (v := x2 + 1) (L' := [(2, vI (x2 + 1)), (0, vR x0), (1, vI x1)]) C dX3_beginsCrawl_49 2 rfl rfl (by decide) rfl ?_
      refine g_goto (tgt := 31) C dX3_beginsCrawl_52 (by decide) ?_
      refine g_sub [1, 2, 0] rfl ?_
      exact ih _ _ _ _ hd
theorem w_X3_beginsCrawl_b0m {K : KT} {r : Unit} {S1 : St} (C : GC K RX3 cX3_beginsCrawl 3 2 []) (E : EH (kΓ K) (kHI K) (kl K)) (Q : GQ K none (.inl none) S1) : ∀ (S : St) (x0 : Option Nat) (x1 : Int32), n_X3_beginsCrawl S x0 x1 = some (r, S1) → G K 3 S 0 [(0, vR x0), (1, vI x1)] [] := by
  intro S x0 x1 hd
  unfold n_X3_beginsCrawl at hd
  refine g_aload_n C dX3_beginsCrawl_0 rfl 0 rfl ?_
  obtain ⟨v1, hv1, hd⟩ := Option.bind_eq_some_iff.mp hd
  refine g_fld C gk_X3 (k := 18) (by decide) q1984 (Or.inl rfl) dX3_beginsCrawl_1 (gR_v hv1) ?_
  refine g_iload_n C dX3_beginsCrawl_4 rfl 1 rfl ?_
  refine g_iconst (v := 1) C dX3_beginsCrawl_5 (by decide) ?_
  obtain ⟨S2, hS2, hd⟩ := Option.bind_eq_some_iff.mp hd
  refine g_zastV C dX3_beginsCrawl_6 hS2 ?_
  refine g_aload_n C dX3_beginsCrawl_7 rfl 0 rfl ?_
  obtain ⟨v3, hv3, hd⟩ := Option.bind_eq_some_iff.mp hd
  refine g_fld C gk_X3 (k := 19) (by decide) q1985 (Or.inl rfl) dX3_beginsCrawl_8 (gR_v hv3) ?_
  refine g_iload_n C dX3_beginsCrawl_11 rfl 1 rfl ?_
  refine g_iconst (v := 1) C dX3_beginsCrawl_12 (by decide) ?_
  obtain ⟨S4, hS4, hd⟩ := Option.bind_eq_some_iff.mp hd
  refine g_iastV C dX3_beginsCrawl_13 hS4 ?_
  refine g_aload_n C dX3_beginsCrawl_14 rfl 0 rfl ?_
  obtain ⟨v5, hv5, hd⟩ := Option.bind_eq_some_iff.mp hd
  refine g_fld C gk_X3 (k := 20) (by decide) q1986 (Or.inl rfl) dX3_beginsCrawl_15 (gR_v hv5) ?_
  refine g_bipush (v := 60) C dX3_beginsCrawl_18 (by decide) ?_
  refine g_iload_n C dX3_beginsCrawl_20 rfl 1 rfl ?_
  refine g_imul C dX3_beginsCrawl_21 ?_
  refine g_aload_n C dX3_beginsCrawl_22 rfl 0 rfl ?_
  obtain ⟨v6, hv6, hd⟩ := Option.bind_eq_some_iff.mp hd
  refine g_fld C gk_X3 (k := 13) (by decide) q1979 (Or.inl rfl) dX3_beginsCrawl_23 (gR_v hv6) ?_
  refine g_iload_n C dX3_beginsCrawl_26 rfl 1 rfl ?_
  obtain ⟨v7, hv7, hd⟩ := Option.bind_eq_some_iff.mp hd
  refine g_ialdV C dX3_beginsCrawl_27 hv7 ?_
  obtain ⟨S8, hS8, hd⟩ := Option.bind_eq_some_iff.mp hd
  refine g_iastV C dX3_beginsCrawl_28 hS8 ?_
  refine g_iconst (v := 0) C dX3_beginsCrawl_29 (by decide) ?_
  refine g_istore_n (L' := [(2, vI (0 : Int32)), (0, vR x0), (1, vI x1)]) C dX3_beginsCrawl_30 rfl (by decide) rfl ?_
  refine g_sub [1, 2, 0] rfl ?_
  exact w_X3_beginsCrawl_b31 C E Q FU _ _ _ _ hd
theorem m_X3_beginsCrawl {Γ : GG} {HI : St → Heap → Prop} {l : Launch} (E : EH Γ HI l) {S : St} {a0 : Option Nat} {a1 : Int32} {r : Unit} {S1 : St} (h : n_X3_beginsCrawl S a0 a1 = some (r, S1)) : MS Γ HI l yX3_beginsCrawl cX3_beginsCrawl 3 none 2 S [vR a0, vI a1] (.inl none) S1 := by
  refine MS_of E.ntr E.hx (by decide +kernel) rfl (Nat.le_of_ble_eq_true rfl) fun K e1 e2 e3 e4 hnm C Q => ?_
  subst e1; subst e2; subst e3
  exact w_X3_beginsCrawl_b0m C E Q S a0 a1 h

def n_X3_watch_b135 (S : St) (x0 : Option Nat) : Option (Int32 × St) :=
  (gI S x0 15 12).bind fun v1 =>
  rtI id (Jvm.ClassFile.FieldType.int) v1 S
def n_X3_watch_b56 (S : St) (x0 : Option Nat) (x1 : Int32) (x2 : Int32) (y0 : Int32) (y1 : Option Nat) : Option (Int32 × St) :=
  (pI .int S y1 15 0 y0).bind fun S1 =>
  (gI S1 x0 15 0).bind fun v2 =>
  if v2 ≤ 0 then
    if x2 = (-1 : Int32) then
      (gR S1 x0 15 13).bind fun v7 =>
      (gI S1 x0 15 12).bind fun v8 =>
      (sI S1 v7 0 v8 x1).bind fun S9 =>
      (gR S9 x0 15 14).bind fun v10 =>
      (gI S9 x0 15 12).bind fun v11 =>
      (sI S9 v10 0 v11 (0 : Int32)).bind fun S12 =>
      (gR S12 x0 15 17).bind fun v13 =>
      (gI S12 x0 15 12).bind fun v14 =>
      (sI S12 v13 1 v14 (0 : Int32)).bind fun S15 =>
      (gI S15 x0 15 12).bind fun v16 =>
      (pI .int S15 x0 15 12 (v16 + (1 : Int32))).bind fun S17 =>
      (gI S17 x0 15 12).bind fun v18 =>
      gd (grc S17 x0 15) <|
      bn (n_X3_beginsCrawl S17 x0 (v18 - (1 : Int32))) fun _ S19 =>
      n_X3_watch_b135 S19 x0
    else
      gd (grc S1 x0 15) <|
      bn (n_X3_drops S1 x0 x2) fun _ S3 =>
      gd (grc S3 x0 15) <|
      bn (n_X3_looksAtLost S3 x0) fun _ S5 =>
      n_X3_watch_b135 S5 x0
  else
    rtI id (Jvm.ClassFile.FieldType.int) (0 : Int32) S1
def n_X3_watch_b51 (S : St) (x0 : Option Nat) (x1 : Int32) (x2 : Int32) (y0 : Option Nat) : Option (Int32 × St) :=
  n_X3_watch_b56 S x0 x1 x2 (2 : Int32) y0
def n_X3_watch_b55 (S : St) (x0 : Option Nat) (x1 : Int32) (x2 : Int32) (y0 : Option Nat) : Option (Int32 × St) :=
  n_X3_watch_b56 S x0 x1 x2 (0 : Int32) y0
def n_X3_watch (S : St) (x0 : Option Nat) (x1 : Int32) : Option (Int32 × St) :=
  gd (grc S x0 15) <|
  bn (n_X3_isFolderAt S x0 x1) fun v2 S1 =>
  if v2 = 0 then
    gd (grc S1 x0 15) <|
    bn (n_X3_fails S1 x0 (1 : Int32)) fun v11 S10 =>
    rtI id (Jvm.ClassFile.FieldType.int) v11 S10
  else
    gd (grc S1 x0 15) <|
    bn (n_X3_rootAt S1 x0 x1) fun v4 S3 =>
    if v4 = (-1 : Int32) then
      (gI S3 x0 15 12).bind fun v5 =>
      if v5 = (3 : Int32) then
        n_X3_watch_b51 S3 x0 x1 v4 x0
      else
        gd (grc S3 x0 15) <|
        bn (n_X3_holdsRoot S3 x0 x1) fun v7 S6 =>
        if v7 = 0 then
          gd (grc S6 x0 15) <|
          bn (n_X3_over S6 x0 x1) fun v9 S8 =>
          if v9 = (-1 : Int32) then
            n_X3_watch_b55 S8 x0 x1 v4 x0
          else
            n_X3_watch_b51 S8 x0 x1 v4 x0
        else
          n_X3_watch_b51 S6 x0 x1 v4 x0
    else
      n_X3_watch_b55 S3 x0 x1 v4 x0
theorem w_X3_watch_b135 {K : KT} {r : Int32} {S1 : St} (C : GC K RX3 cX3_watch 3 5 []) (E : EH (kΓ K) (kHI K) (kl K)) (Q : GQ K (some (Jvm.ClassFile.FieldType.int)) (.inl (some (vI r))) S1) : ∀ (S : St) (x0 : Option Nat), n_X3_watch_b135 S x0 = some (r, S1) → G K 3 S 135 [(0, vR x0)] [] := by
  intro S x0 hd
  unfold n_X3_watch_b135 at hd
  refine g_aload_n C dX3_watch_135 rfl 0 rfl ?_
  obtain ⟨v1, hv1, hd⟩ := Option.bind_eq_some_iff.mp hd
  refine g_fld C gk_X3 (k := 12) (by decide) q1978 (Or.inl rfl) dX3_watch_136 (gI_v hv1) ?_
  exact g_iret C Q hd dX3_watch_139
theorem w_X3_watch_b56 {K : KT} {r : Int32} {S1 : St} (C : GC K RX3 cX3_watch 3 5 []) (E : EH (kΓ K) (kHI K) (kl K)) (Q : GQ K (some (Jvm.ClassFile.FieldType.int)) (.inl (some (vI r))) S1) : ∀ (S : St) (x0 : Option Nat) (x1 : Int32) (x2 : Int32) (y0 : Int32) (y1 : Option Nat), n_X3_watch_b56 S x0 x1 x2 y0 y1 = some (r, S1) → G K 3 S 56 [(0, vR x0), (1, vI x1), (2, vI x2)] [vI y0, vR y1] := by
  intro S x0 x1 x2 y0 y1 hd
  unfold n_X3_watch_b56 at hd
  obtain ⟨S1, hS1, hd⟩ := Option.bind_eq_some_iff.mp hd
  refine g_put C gk_X3 (k := 0) (by decide) q1966 (Or.inl rfl) rfl dX3_watch_56 (gfit_ok (pI_v hS1).1).1 (gfit_ok (pI_v hS1).1).2 (pI_v hS1).2 ?_
  refine g_aload_n C dX3_watch_59 rfl 0 rfl ?_
  obtain ⟨v2, hv2, hd⟩ := Option.bind_eq_some_iff.mp hd
  refine g_fld C gk_X3 (k := 0) (by decide) q1966 (Or.inl rfl) dX3_watch_60 (gI_v hv2) ?_
  refine g_if_le (tgt := 68) C dX3_watch_63 (by decide) hd (fun hd => ?_) (fun hd => ?_)
  · refine g_iload_n C dX3_watch_68 rfl 2 rfl ?_
    refine g_iconst (v := (-1)) C dX3_watch_69 (by decide) ?_
    refine g_icmp_ne (tgt := 126) C dX3_watch_70 (by decide) hd (fun hd => ?_) (fun hd => ?_)
    · refine g_aload_n C dX3_watch_126 rfl 0 rfl ?_
      refine g_iload_n C dX3_watch_127 rfl 2 rfl ?_
      obtain ⟨hg, hd⟩ := gd_some hd
      obtain ⟨_, S3, hc, hd⟩ := bn_some hd
      refine g_cV_n (n := 1) C (gk_X3).1 q2175 q2177 qs61 q108 q2178 (by decide +kernel) (by decide) (by decide) dX3_watch_128 (As := [vI x2]) (rest := []) rfl rfl (Nat.le_of_ble_eq_true rfl) hg (m_X3_drops E hc) ?_
      refine g_aload_n C dX3_watch_131 rfl 0 rfl ?_
      obtain ⟨hg, hd⟩ := gd_some hd
      obtain ⟨_, S5, hc, hd⟩ := bn_some hd
      refine g_cV_n (n := 0) C (gk_X3).1 q2179 q2181 qs62 q108 q2182 (by decide +kernel) (by decide) (by decide) dX3_watch_132 (As := []) (rest := []) rfl rfl (Nat.le_of_ble_eq_true rfl) hg (m_X3_looksAtLost E hc) ?_
      refine g_sub [0] rfl ?_
      exact w_X3_watch_b135 C E Q _ _ hd
    · refine g_aload_n C dX3_watch_73 rfl 0 rfl ?_
      obtain ⟨v7, hv7, hd⟩ := Option.bind_eq_some_iff.mp hd
      refine g_fld C gk_X3 (k := 13) (by decide) q1979 (Or.inl rfl) dX3_watch_74 (gR_v hv7) ?_
      refine g_aload_n C dX3_watch_77 rfl 0 rfl ?_
      obtain ⟨v8, hv8, hd⟩ := Option.bind_eq_some_iff.mp hd
      refine g_fld C gk_X3 (k := 12) (by decide) q1978 (Or.inl rfl) dX3_watch_78 (gI_v hv8) ?_
      refine g_iload_n C dX3_watch_81 rfl 1 rfl ?_
      obtain ⟨S9, hS9, hd⟩ := Option.bind_eq_some_iff.mp hd
      refine g_iastV C dX3_watch_82 hS9 ?_
      refine g_aload_n C dX3_watch_83 rfl 0 rfl ?_
      obtain ⟨v10, hv10, hd⟩ := Option.bind_eq_some_iff.mp hd
      refine g_fld C gk_X3 (k := 14) (by decide) q1980 (Or.inl rfl) dX3_watch_84 (gR_v hv10) ?_
      refine g_aload_n C dX3_watch_87 rfl 0 rfl ?_
      obtain ⟨v11, hv11, hd⟩ := Option.bind_eq_some_iff.mp hd
      refine g_fld C gk_X3 (k := 12) (by decide) q1978 (Or.inl rfl) dX3_watch_88 (gI_v hv11) ?_
      refine g_iconst (v := 0) C dX3_watch_91 (by decide) ?_
      obtain ⟨S12, hS12, hd⟩ := Option.bind_eq_some_iff.mp hd
      refine g_iastV C dX3_watch_92 hS12 ?_
      refine g_aload_n C dX3_watch_93 rfl 0 rfl ?_
      obtain ⟨v13, hv13, hd⟩ := Option.bind_eq_some_iff.mp hd
      refine g_fld C gk_X3 (k := 17) (by decide) q1983 (Or.inl rfl) dX3_watch_94 (gR_v hv13) ?_
      refine g_aload_n C dX3_watch_97 rfl 0 rfl ?_
      obtain ⟨v14, hv14, hd⟩ := Option.bind_eq_some_iff.mp hd
      refine g_fld C gk_X3 (k := 12) (by decide) q1978 (Or.inl rfl) dX3_watch_98 (gI_v hv14) ?_
      refine g_iconst (v := 0) C dX3_watch_101 (by decide) ?_
      obtain ⟨S15, hS15, hd⟩ := Option.bind_eq_some_iff.mp hd
      refine g_zastV C dX3_watch_102 hS15 ?_
      refine g_aload_n C dX3_watch_103 rfl 0 rfl ?_
      refine g_dup C dX3_watch_104 rfl ?_
      obtain ⟨v16, hv16, hd⟩ := Option.bind_eq_some_iff.mp hd
      refine g_fld C gk_X3 (k := 12) (by decide) q1978 (Or.inl rfl) dX3_watch_105 (gI_v hv16) ?_
      refine g_iconst (v := 1) C dX3_watch_108 (by decide) ?_
      refine g_iadd C dX3_watch_109 ?_
      obtain ⟨S17, hS17, hd⟩ := Option.bind_eq_some_iff.mp hd
      refine g_put C gk_X3 (k := 12) (by decide) q1978 (Or.inl rfl) rfl dX3_watch_110 (gfit_ok (pI_v hS17).1).1 (gfit_ok (pI_v hS17).1).2 (pI_v hS17).2 ?_
      refine g_aload_n C dX3_watch_113 rfl 0 rfl ?_
      refine g_aload_n C dX3_watch_114 rfl 0 rfl ?_
      obtain ⟨v18, hv18, hd⟩ := Option.bind_eq_some_iff.mp hd
      refine g_fld C gk_X3 (k := 12) (by decide) q1978 (Or.inl rfl) dX3_watch_115 (gI_v hv18) ?_
      refine g_iconst (v := 1) C dX3_watch_118 (by decide) ?_
      refine g_isub C dX3_watch_119 ?_
      obtain ⟨hg, hd⟩ := gd_some hd
      obtain ⟨_, S19, hc, hd⟩ := bn_some hd
      refine g_cV_n (n := 1) C (gk_X3).1 q2211 q2213 qs65 q108 q2214 (by decide +kernel) (by decide) (by decide) dX3_watch_120 (As := [vI (v18 - (1 : Int32))]) (rest := []) rfl rfl (Nat.le_of_ble_eq_true rfl) hg (m_X3_beginsCrawl E hc) ?_
      refine g_goto (tgt := 135) C dX3_watch_123 (by decide) ?_
      refine g_sub [0] rfl ?_
      exact w_X3_watch_b135 C E Q _ _ hd
  · refine g_iconst (v := 0) C dX3_watch_66 (by decide) ?_
    exact g_iret C Q hd dX3_watch_67
theorem w_X3_watch_b51 {K : KT} {r : Int32} {S1 : St} (C : GC K RX3 cX3_watch 3 5 []) (E : EH (kΓ K) (kHI K) (kl K)) (Q : GQ K (some (Jvm.ClassFile.FieldType.int)) (.inl (some (vI r))) S1) : ∀ (S : St) (x0 : Option Nat) (x1 : Int32) (x2 : Int32) (y0 : Option Nat), n_X3_watch_b51 S x0 x1 x2 y0 = some (r, S1) → G K 3 S 51 [(0, vR x0), (1, vI x1), (2, vI x2)] [vR y0] := by
  intro S x0 x1 x2 y0 hd
  unfold n_X3_watch_b51 at hd
  refine g_iconst (v := 2) C dX3_watch_51 (by decide) ?_
  refine g_goto (tgt := 56) C dX3_watch_52 (by decide) ?_
  refine g_sub [0, 1, 2] rfl ?_
  exact w_X3_watch_b56 C E Q _ _ _ _ _ _ hd
theorem w_X3_watch_b55 {K : KT} {r : Int32} {S1 : St} (C : GC K RX3 cX3_watch 3 5 []) (E : EH (kΓ K) (kHI K) (kl K)) (Q : GQ K (some (Jvm.ClassFile.FieldType.int)) (.inl (some (vI r))) S1) : ∀ (S : St) (x0 : Option Nat) (x1 : Int32) (x2 : Int32) (y0 : Option Nat), n_X3_watch_b55 S x0 x1 x2 y0 = some (r, S1) → G K 3 S 55 [(0, vR x0), (1, vI x1), (2, vI x2)] [vR y0] := by
  intro S x0 x1 x2 y0 hd
  unfold n_X3_watch_b55 at hd
  refine g_iconst (v := 0) C dX3_watch_55 (by decide) ?_
  refine g_sub [0, 1, 2] rfl ?_
  exact w_X3_watch_b56 C E Q _ _ _ _ _ _ hd
theorem w_X3_watch_b0m {K : KT} {r : Int32} {S1 : St} (C : GC K RX3 cX3_watch 3 5 []) (E : EH (kΓ K) (kHI K) (kl K)) (Q : GQ K (some (Jvm.ClassFile.FieldType.int)) (.inl (some (vI r))) S1) : ∀ (S : St) (x0 : Option Nat) (x1 : Int32), n_X3_watch S x0 x1 = some (r, S1) → G K 3 S 0 [(0, vR x0), (1, vI x1)] [] := by
  intro S x0 x1 hd
  unfold n_X3_watch at hd
  refine g_aload_n C dX3_watch_0 rfl 0 rfl ?_
  refine g_iload_n C dX3_watch_1 rfl 1 rfl ?_
  obtain ⟨hg, hd⟩ := gd_some hd
  obtain ⟨v2, S1, hc, hd⟩ := bn_some hd
  refine g_cV_v (n := 1) C (gk_X3).1 q2116 q2118 qs51 q108 q2119 (by decide +kernel) (by decide) (by decide) dX3_watch_2 (As := [vI x1]) (rest := []) rfl rfl (Nat.le_of_ble_eq_true rfl) hg (m_X3_isFolderAt E hc) ?_
  refine g_if_ne (tgt := 14) C dX3_watch_5 (by decide) hd (fun hd => ?_) (fun hd => ?_)
  · refine g_aload_n C dX3_watch_14 rfl 0 rfl ?_
    refine g_iload_n C dX3_watch_15 rfl 1 rfl ?_
    obtain ⟨hg, hd⟩ := gd_some hd
    obtain ⟨v4, S3, hc, hd⟩ := bn_some hd
    refine g_cV_v (n := 1) C (gk_X3).1 q2167 q2169 qs60 q108 q2170 (by decide +kernel) (by decide) (by decide) dX3_watch_16 (As := [vI x1]) (rest := []) rfl rfl (Nat.le_of_ble_eq_true rfl) hg (m_X3_rootAt E hc) ?_
    refine g_istore_n (L' := [(2, vI v4), (0, vR x0), (1, vI x1)]) C dX3_watch_19 rfl (by decide) rfl ?_
    refine g_aload_n C dX3_watch_20 rfl 1 rfl ?_
    refine g_iload_n C dX3_watch_21 rfl 0 rfl ?_
    refine g_iconst (v := (-1)) C dX3_watch_22 (by decide) ?_
    refine g_icmp_ne (tgt := 55) C dX3_watch_23 (by decide) hd (fun hd => ?_) (fun hd => ?_)
    · refine g_sub [1, 2, 0] rfl ?_
      exact w_X3_watch_b55 C E Q _ _ _ _ _ hd
    · refine g_aload_n C dX3_watch_26 rfl 1 rfl ?_
      obtain ⟨v5, hv5, hd⟩ := Option.bind_eq_some_iff.mp hd
      refine g_fld C gk_X3 (k := 12) (by decide) q1978 (Or.inl rfl) dX3_watch_27 (gI_v hv5) ?_
      refine g_iconst (v := 3) C dX3_watch_30 (by decide) ?_
      refine g_icmp_eq (tgt := 51) C dX3_watch_31 (by decide) hd (fun hd => ?_) (fun hd => ?_)
      · refine g_sub [1, 2, 0] rfl ?_
        exact w_X3_watch_b51 C E Q _ _ _ _ _ hd
      · refine g_aload_n C dX3_watch_34 rfl 1 rfl ?_
        refine g_iload_n C dX3_watch_35 rfl 2 rfl ?_
        obtain ⟨hg, hd⟩ := gd_some hd
        obtain ⟨v7, S6, hc, hd⟩ := bn_some hd
        refine g_cV_v (n := 1) C (gk_X3).1 q2163 q2165 qs59 q108 q2166 (by decide +kernel) (by decide) (by decide) dX3_watch_36 (As := [vI x1]) (rest := [vR x0]) rfl rfl (Nat.le_of_ble_eq_true rfl) hg (m_X3_holdsRoot E hc) ?_
        refine g_if_ne (tgt := 51) C dX3_watch_39 (by decide) hd (fun hd => ?_) (fun hd => ?_)
        · refine g_sub [1, 2, 0] rfl ?_
          exact w_X3_watch_b51 C E Q _ _ _ _ _ hd
        · refine g_aload_n C dX3_watch_42 rfl 1 rfl ?_
          refine g_iload_n C dX3_watch_43 rfl 2 rfl ?_
          obtain ⟨hg, hd⟩ := gd_some hd
          obtain ⟨v9, S8, hc, hd⟩ := bn_some hd
          refine g_cV_v (n := 1) C (gk_X3).1 q2135 q2137 qs55 q108 q2138 (by decide +kernel) (by decide) (by decide) dX3_watch_44 (As := [vI x1]) (rest := [vR x0]) rfl rfl (Nat.le_of_ble_eq_true rfl) hg (m_X3_over E hc) ?_
          refine g_iconst (v := (-1)) C dX3_watch_47 (by decide) ?_
          refine g_icmp_eq (tgt := 55) C dX3_watch_48 (by decide) hd (fun hd => ?_) (fun hd => ?_)
          · refine g_sub [1, 2, 0] rfl ?_
            exact w_X3_watch_b55 C E Q _ _ _ _ _ hd
          · refine g_sub [1, 2, 0] rfl ?_
            exact w_X3_watch_b51 C E Q _ _ _ _ _ hd
  · refine g_aload_n C dX3_watch_8 rfl 0 rfl ?_
    refine g_iconst (v := 1) C dX3_watch_9 (by decide) ?_
    obtain ⟨hg, hd⟩ := gd_some hd
    obtain ⟨v11, S10, hc, hd⟩ := bn_some hd
    refine g_cV_v (n := 1) C (gk_X3).1 q2127 q2129 qs53 q108 q2130 (by decide +kernel) (by decide) (by decide) dX3_watch_10 (As := [vI (1 : Int32)]) (rest := []) rfl rfl (Nat.le_of_ble_eq_true rfl) hg (m_X3_fails E hc) ?_
    exact g_iret C Q hd dX3_watch_13
theorem m_X3_watch {Γ : GG} {HI : St → Heap → Prop} {l : Launch} (E : EH Γ HI l) {S : St} {a0 : Option Nat} {a1 : Int32} {r : Int32} {S1 : St} (h : n_X3_watch S a0 a1 = some (r, S1)) : MS Γ HI l yX3_watch cX3_watch 3 (some (Jvm.ClassFile.FieldType.int)) 5 S [vR a0, vI a1] (.inl (some (vI r))) S1 := by
  refine MS_of E.ntr E.hx (by decide +kernel) rfl (Nat.le_of_ble_eq_true rfl) fun K e1 e2 e3 e4 hnm C Q => ?_
  subst e1; subst e2; subst e3
  exact w_X3_watch_b0m C E Q S a0 a1 h

def n_X3_notices_b35 (S : St) (x0 : Option Nat) (x2 : Int32) (y0 : Int32) (y1 : Option Nat) : Option (Int32 × St) :=
  (pI .int S y1 15 0 y0).bind fun S1 =>
  (gI S1 x0 15 0).bind fun v2 =>
  if v2 ≤ 0 then
    (gR S1 x0 15 17).bind fun v3 =>
    (aI S1 v3 1 x2).bind fun v4 =>
    if v4 = 0 then
      (gR S1 x0 15 14).bind fun v5 =>
      (aI S1 v5 0 x2).bind fun v6 =>
      rtI id (Jvm.ClassFile.FieldType.int) v6 S1
    else
      rtI id (Jvm.ClassFile.FieldType.int) (-1 : Int32) S1
  else
    rtI id (Jvm.ClassFile.FieldType.int) (0 : Int32) S1
def n_X3_notices_b23 (S : St) (x0 : Option Nat) (y0 : Int32) : Option (Int32 × St) :=
  if y0 = (-1 : Int32) then
    n_X3_notices_b35 S x0 y0 (1 : Int32) x0
  else
    n_X3_notices_b35 S x0 y0 (0 : Int32) x0
def n_X3_notices (S : St) (x0 : Option Nat) (x1 : Int32) : Option (Int32 × St) :=
  (gI S x0 15 2).bind fun v1 =>
  bn (n_X3_in S x1 (0 : Int32) (v1 - (1 : Int32))) fun v3 S2 =>
  if v3 = 0 then
    n_X3_notices_b23 S2 x0 (-1 : Int32)
  else
    gd (grc S2 x0 15) <|
    bn (n_X3_rootAt S2 x0 x1) fun v5 S4 =>
    n_X3_notices_b23 S4 x0 v5
theorem w_X3_notices_b35 {K : KT} {r : Int32} {S1 : St} (C : GC K RX3 cX3_notices 3 3 []) (E : EH (kΓ K) (kHI K) (kl K)) (Q : GQ K (some (Jvm.ClassFile.FieldType.int)) (.inl (some (vI r))) S1) : ∀ (S : St) (x0 : Option Nat) (x2 : Int32) (y0 : Int32) (y1 : Option Nat), n_X3_notices_b35 S x0 x2 y0 y1 = some (r, S1) → G K 3 S 35 [(0, vR x0), (2, vI x2)] [vI y0, vR y1] := by
  intro S x0 x2 y0 y1 hd
  unfold n_X3_notices_b35 at hd
  obtain ⟨S1, hS1, hd⟩ := Option.bind_eq_some_iff.mp hd
  refine g_put C gk_X3 (k := 0) (by decide) q1966 (Or.inl rfl) rfl dX3_notices_35 (gfit_ok (pI_v hS1).1).1 (gfit_ok (pI_v hS1).1).2 (pI_v hS1).2 ?_
  refine g_aload_n C dX3_notices_38 rfl 0 rfl ?_
  obtain ⟨v2, hv2, hd⟩ := Option.bind_eq_some_iff.mp hd
  refine g_fld C gk_X3 (k := 0) (by decide) q1966 (Or.inl rfl) dX3_notices_39 (gI_v hv2) ?_
  refine g_if_le (tgt := 49) C dX3_notices_42 (by decide) hd (fun hd => ?_) (fun hd => ?_)
  · refine g_aload_n C dX3_notices_49 rfl 0 rfl ?_
    obtain ⟨v3, hv3, hd⟩ := Option.bind_eq_some_iff.mp hd
    refine g_fld C gk_X3 (k := 17) (by decide) q1983 (Or.inl rfl) dX3_notices_50 (gR_v hv3) ?_
    refine g_iload_n C dX3_notices_53 rfl 1 rfl ?_
    obtain ⟨v4, hv4, hd⟩ := Option.bind_eq_some_iff.mp hd
    refine g_zaldV C dX3_notices_54 hv4 ?_
    refine g_if_eq (tgt := 62) C dX3_notices_55 (by decide) hd (fun hd => ?_) (fun hd => ?_)
    · refine g_aload_n C dX3_notices_62 rfl 0 rfl ?_
      obtain ⟨v5, hv5, hd⟩ := Option.bind_eq_some_iff.mp hd
      refine g_fld C gk_X3 (k := 14) (by decide) q1980 (Or.inl rfl) dX3_notices_63 (gR_v hv5) ?_
      refine g_iload_n C dX3_notices_66 rfl 1 rfl ?_
      obtain ⟨v6, hv6, hd⟩ := Option.bind_eq_some_iff.mp hd
      refine g_ialdV C dX3_notices_67 hv6 ?_
      exact g_iret C Q hd dX3_notices_68
    · refine g_iconst (v := (-1)) C dX3_notices_58 (by decide) ?_
      refine g_goto (tgt := 68) C dX3_notices_59 (by decide) ?_
      exact g_iret C Q hd dX3_notices_68
  · refine g_iconst (v := 0) C dX3_notices_45 (by decide) ?_
    refine g_goto (tgt := 68) C dX3_notices_46 (by decide) ?_
    exact g_iret C Q hd dX3_notices_68
theorem w_X3_notices_b23 {K : KT} {r : Int32} {S1 : St} (C : GC K RX3 cX3_notices 3 3 []) (E : EH (kΓ K) (kHI K) (kl K)) (Q : GQ K (some (Jvm.ClassFile.FieldType.int)) (.inl (some (vI r))) S1) : ∀ (S : St) (x0 : Option Nat) (y0 : Int32), n_X3_notices_b23 S x0 y0 = some (r, S1) → G K 3 S 23 [(0, vR x0)] [vI y0] := by
  intro S x0 y0 hd
  unfold n_X3_notices_b23 at hd
  refine g_istore_n (L' := [(2, vI y0), (0, vR x0)]) C dX3_notices_23 rfl (by decide) rfl ?_
  refine g_aload_n C dX3_notices_24 rfl 1 rfl ?_
  refine g_iload_n C dX3_notices_25 rfl 0 rfl ?_
  refine g_iconst (v := (-1)) C dX3_notices_26 (by decide) ?_
  refine g_icmp_ne (tgt := 34) C dX3_notices_27 (by decide) hd (fun hd => ?_) (fun hd => ?_)
  · refine g_iconst (v := 0) C dX3_notices_34 (by decide) ?_
    refine g_sub [1, 0] rfl ?_
    exact w_X3_notices_b35 C E Q _ _ _ _ _ hd
  · refine g_iconst (v := 1) C dX3_notices_30 (by decide) ?_
    refine g_goto (tgt := 35) C dX3_notices_31 (by decide) ?_
    refine g_sub [1, 0] rfl ?_
    exact w_X3_notices_b35 C E Q _ _ _ _ _ hd
theorem w_X3_notices_b0m {K : KT} {r : Int32} {S1 : St} (C : GC K RX3 cX3_notices 3 3 []) (E : EH (kΓ K) (kHI K) (kl K)) (Q : GQ K (some (Jvm.ClassFile.FieldType.int)) (.inl (some (vI r))) S1) : ∀ (S : St) (x0 : Option Nat) (x1 : Int32), n_X3_notices S x0 x1 = some (r, S1) → G K 3 S 0 [(0, vR x0), (1, vI x1)] [] := by
  intro S x0 x1 hd
  unfold n_X3_notices at hd
  refine g_iload_n C dX3_notices_0 rfl 1 rfl ?_
  refine g_iconst (v := 0) C dX3_notices_1 (by decide) ?_
  refine g_aload_n C dX3_notices_2 rfl 0 rfl ?_
  obtain ⟨v1, hv1, hd⟩ := Option.bind_eq_some_iff.mp hd
  refine g_fld C gk_X3 (k := 2) (by decide) q1968 (Or.inl rfl) dX3_notices_3 (gI_v hv1) ?_
  refine g_iconst (v := 1) C dX3_notices_6 (by decide) ?_
  refine g_isub C dX3_notices_7 ?_
  obtain ⟨v3, S2, hc, hd⟩ := bn_some hd
  refine g_cS_v (n := 3) C q2124 q2125 q108 q2126 (by decide +kernel) (by decide) (by decide) dX3_notices_8 (As := [vI x1, vI (0 : Int32), vI (v1 - (1 : Int32))]) (rest := []) rfl rfl (Nat.le_of_ble_eq_true rfl) (m_X3_in E hc) ?_
  refine g_if_eq (tgt := 22) C dX3_notices_11 (by decide) hd (fun hd => ?_) (fun hd => ?_)
  · refine g_iconst (v := (-1)) C dX3_notices_22 (by decide) ?_
    refine g_sub [0] rfl ?_
    exact w_X3_notices_b23 C E Q _ _ _ hd
  · refine g_aload_n C dX3_notices_14 rfl 0 rfl ?_
    refine g_iload_n C dX3_notices_15 rfl 1 rfl ?_
    obtain ⟨hg, hd⟩ := gd_some hd
    obtain ⟨v5, S4, hc, hd⟩ := bn_some hd
    refine g_cV_v (n := 1) C (gk_X3).1 q2167 q2169 qs60 q108 q2170 (by decide +kernel) (by decide) (by decide) dX3_notices_16 (As := [vI x1]) (rest := []) rfl rfl (Nat.le_of_ble_eq_true rfl) hg (m_X3_rootAt E hc) ?_
    refine g_goto (tgt := 23) C dX3_notices_19 (by decide) ?_
    refine g_sub [0] rfl ?_
    exact w_X3_notices_b23 C E Q _ _ _ hd
theorem m_X3_notices {Γ : GG} {HI : St → Heap → Prop} {l : Launch} (E : EH Γ HI l) {S : St} {a0 : Option Nat} {a1 : Int32} {r : Int32} {S1 : St} (h : n_X3_notices S a0 a1 = some (r, S1)) : MS Γ HI l yX3_notices cX3_notices 3 (some (Jvm.ClassFile.FieldType.int)) 3 S [vR a0, vI a1] (.inl (some (vI r))) S1 := by
  refine MS_of E.ntr E.hx (by decide +kernel) rfl (Nat.le_of_ble_eq_true rfl) fun K e1 e2 e3 e4 hnm C Q => ?_
  subst e1; subst e2; subst e3
  exact w_X3_notices_b0m C E Q S a0 a1 h

def n_X3_twice_b30 (S : St) (x0 : Option Nat) (x2 : Int32) (y0 : Int32) (y1 : Option Nat) : Option (Int32 × St) :=
  (pI .int S y1 15 0 y0).bind fun S1 =>
  (gI S1 x0 15 0).bind fun v2 =>
  if v2 ≤ 0 then
    (gR S1 x0 15 15).bind fun v3 =>
    (gR S1 x0 15 14).bind fun v4 =>
    (aI S1 v4 0 x2).bind fun v5 =>
    (aI S1 v3 0 ((((8 : Int32) * x2) + v5) - (1 : Int32))).bind fun v6 =>
    (gR S1 x0 15 16).bind fun v7 =>
    (gR S1 x0 15 14).bind fun v8 =>
    (aI S1 v8 0 x2).bind fun v9 =>
    (aI S1 v7 0 ((((8 : Int32) * x2) + v9) - (1 : Int32))).bind fun v10 =>
    gd (grc S1 x0 15) <|
    bn (n_X3_comes S1 x0 x2 v6 v10) fun _ S11 =>
    (gR S11 x0 15 17).bind fun v13 =>
    (aI S11 v13 1 x2).bind fun v14 =>
    if v14 = 0 then
      (gR S11 x0 15 14).bind fun v15 =>
      (aI S11 v15 0 x2).bind fun v16 =>
      rtI id (Jvm.ClassFile.FieldType.int) v16 S11
    else
      rtI id (Jvm.ClassFile.FieldType.int) (-1 : Int32) S11
  else
    rtI id (Jvm.ClassFile.FieldType.int) (0 : Int32) S1
def n_X3_twice (S : St) (x0 : Option Nat) (x1 : Int32) : Option (Int32 × St) :=
  gd (grc S x0 15) <|
  bn (n_X3_rootAt S x0 x1) fun v2 S1 =>
  if v2 = (-1 : Int32) then
    n_X3_twice_b30 S1 x0 v2 (1 : Int32) x0
  else
    (gR S1 x0 15 14).bind fun v3 =>
    (aI S1 v3 0 v2).bind fun v4 =>
    if v4 = 0 then
      n_X3_twice_b30 S1 x0 v2 (2 : Int32) x0
    else
      n_X3_twice_b30 S1 x0 v2 (0 : Int32) x0
theorem w_X3_twice_b30 {K : KT} {r : Int32} {S1 : St} (C : GC K RX3 cX3_twice 3 3 []) (E : EH (kΓ K) (kHI K) (kl K)) (Q : GQ K (some (Jvm.ClassFile.FieldType.int)) (.inl (some (vI r))) S1) : ∀ (S : St) (x0 : Option Nat) (x2 : Int32) (y0 : Int32) (y1 : Option Nat), n_X3_twice_b30 S x0 x2 y0 y1 = some (r, S1) → G K 3 S 30 [(0, vR x0), (2, vI x2)] [vI y0, vR y1] := by
  intro S x0 x2 y0 y1 hd
  unfold n_X3_twice_b30 at hd
  obtain ⟨S1, hS1, hd⟩ := Option.bind_eq_some_iff.mp hd
  refine g_put C gk_X3 (k := 0) (by decide) q1966 (Or.inl rfl) rfl dX3_twice_30 (gfit_ok (pI_v hS1).1).1 (gfit_ok (pI_v hS1).1).2 (pI_v hS1).2 ?_
  refine g_aload_n C dX3_twice_33 rfl 0 rfl ?_
  obtain ⟨v2, hv2, hd⟩ := Option.bind_eq_some_iff.mp hd
  refine g_fld C gk_X3 (k := 0) (by decide) q1966 (Or.inl rfl) dX3_twice_34 (gI_v hv2) ?_
  refine g_if_le (tgt := 42) C dX3_twice_37 (by decide) hd (fun hd => ?_) (fun hd => ?_)
  · refine g_aload_n C dX3_twice_42 rfl 0 rfl ?_
    refine g_iload_n C dX3_twice_43 rfl 1 rfl ?_
    refine g_aload_n C dX3_twice_44 rfl 0 rfl ?_
    obtain ⟨v3, hv3, hd⟩ := Option.bind_eq_some_iff.mp hd
    refine g_fld C gk_X3 (k := 15) (by decide) q1981 (Or.inl rfl) dX3_twice_45 (gR_v hv3) ?_
    refine g_bipush (v := 8) C dX3_twice_48 (by decide) ?_
    refine g_iload_n C dX3_twice_50 rfl 1 rfl ?_
    refine g_imul C dX3_twice_51 ?_
    refine g_aload_n C dX3_twice_52 rfl 0 rfl ?_
    obtain ⟨v4, hv4, hd⟩ := Option.bind_eq_some_iff.mp hd
    refine g_fld C gk_X3 (k := 14) (by decide) q1980 (Or.inl rfl) dX3_twice_53 (gR_v hv4) ?_
    refine g_iload_n C dX3_twice_56 rfl 1 rfl ?_
    obtain ⟨v5, hv5, hd⟩ := Option.bind_eq_some_iff.mp hd
    refine g_ialdV C dX3_twice_57 hv5 ?_
    refine g_iadd C dX3_twice_58 ?_
    refine g_iconst (v := 1) C dX3_twice_59 (by decide) ?_
    refine g_isub C dX3_twice_60 ?_
    obtain ⟨v6, hv6, hd⟩ := Option.bind_eq_some_iff.mp hd
    refine g_ialdV C dX3_twice_61 hv6 ?_
    refine g_aload_n C dX3_twice_62 rfl 0 rfl ?_
    obtain ⟨v7, hv7, hd⟩ := Option.bind_eq_some_iff.mp hd
    refine g_fld C gk_X3 (k := 16) (by decide) q1982 (Or.inl rfl) dX3_twice_63 (gR_v hv7) ?_
    refine g_bipush (v := 8) C dX3_twice_66 (by decide) ?_
    refine g_iload_n C dX3_twice_68 rfl 1 rfl ?_
    refine g_imul C dX3_twice_69 ?_
    refine g_aload_n C dX3_twice_70 rfl 0 rfl ?_
    obtain ⟨v8, hv8, hd⟩ := Option.bind_eq_some_iff.mp hd
    refine g_fld C gk_X3 (k := 14) (by decide) q1980 (Or.inl rfl) dX3_twice_71 (gR_v hv8) ?_
    refine g_iload_n C dX3_twice_74 rfl 1 rfl ?_
    obtain ⟨v9, hv9, hd⟩ := Option.bind_eq_some_iff.mp hd
    refine g_ialdV C dX3_twice_75 hv9 ?_
    refine g_iadd C dX3_twice_76 ?_
    refine g_iconst (v := 1) C dX3_twice_77 (by decide) ?_
    refine g_isub C dX3_twice_78 ?_
    obtain ⟨v10, hv10, hd⟩ := Option.bind_eq_some_iff.mp hd
    refine g_ialdV C dX3_twice_79 hv10 ?_
    obtain ⟨hg, hd⟩ := gd_some hd
    obtain ⟨_, S11, hc, hd⟩ := bn_some hd
    refine g_cV_n (n := 3) C (gk_X3).1 q2143 q2145 qs57 q108 q2146 (by decide +kernel) (by decide) (by decide) dX3_twice_80 (As := [vI x2, vI v6, vI v10]) (rest := []) rfl rfl (Nat.le_of_ble_eq_true rfl) hg (m_X3_comes E hc) ?_
    refine g_aload_n C dX3_twice_83 rfl 0 rfl ?_
    obtain ⟨v13, hv13, hd⟩ := Option.bind_eq_some_iff.mp hd
    refine g_fld C gk_X3 (k := 17) (by decide) q1983 (Or.inl rfl) dX3_twice_84 (gR_v hv13) ?_
    refine g_iload_n C dX3_twice_87 rfl 1 rfl ?_
    obtain ⟨v14, hv14, hd⟩ := Option.bind_eq_some_iff.mp hd
    refine g_zaldV C dX3_twice_88 hv14 ?_
    refine g_if_eq (tgt := 96) C dX3_twice_89 (by decide) hd (fun hd => ?_) (fun hd => ?_)
    · refine g_aload_n C dX3_twice_96 rfl 0 rfl ?_
      obtain ⟨v15, hv15, hd⟩ := Option.bind_eq_some_iff.mp hd
      refine g_fld C gk_X3 (k := 14) (by decide) q1980 (Or.inl rfl) dX3_twice_97 (gR_v hv15) ?_
      refine g_iload_n C dX3_twice_100 rfl 1 rfl ?_
      obtain ⟨v16, hv16, hd⟩ := Option.bind_eq_some_iff.mp hd
      refine g_ialdV C dX3_twice_101 hv16 ?_
      exact g_iret C Q hd dX3_twice_102
    · refine g_iconst (v := (-1)) C dX3_twice_92 (by decide) ?_
      refine g_goto (tgt := 102) C dX3_twice_93 (by decide) ?_
      exact g_iret C Q hd dX3_twice_102
  · refine g_iconst (v := 0) C dX3_twice_40 (by decide) ?_
    exact g_iret C Q hd dX3_twice_41
theorem w_X3_twice_b0m {K : KT} {r : Int32} {S1 : St} (C : GC K RX3 cX3_twice 3 3 []) (E : EH (kΓ K) (kHI K) (kl K)) (Q : GQ K (some (Jvm.ClassFile.FieldType.int)) (.inl (some (vI r))) S1) : ∀ (S : St) (x0 : Option Nat) (x1 : Int32), n_X3_twice S x0 x1 = some (r, S1) → G K 3 S 0 [(0, vR x0), (1, vI x1)] [] := by
  intro S x0 x1 hd
  unfold n_X3_twice at hd
  refine g_aload_n C dX3_twice_0 rfl 0 rfl ?_
  refine g_iload_n C dX3_twice_1 rfl 1 rfl ?_
  obtain ⟨hg, hd⟩ := gd_some hd
  obtain ⟨v2, S1, hc, hd⟩ := bn_some hd
  refine g_cV_v (n := 1) C (gk_X3).1 q2167 q2169 qs60 q108 q2170 (by decide +kernel) (by decide) (by decide) dX3_twice_2 (As := [vI x1]) (rest := []) rfl rfl (Nat.le_of_ble_eq_true rfl) hg (m_X3_rootAt E hc) ?_
  refine g_istore_n (L' := [(2, vI v2), (0, vR x0), (1, vI x1)]) C dX3_twice_5 rfl (by decide) rfl ?_
  refine g_aload_n C dX3_twice_6 rfl 1 rfl ?_
  refine g_iload_n C dX3_twice_7 rfl 0 rfl ?_
  refine g_iconst (v := (-1)) C dX3_twice_8 (by decide) ?_
  refine g_icmp_ne (tgt := 16) C dX3_twice_9 (by decide) hd (fun hd => ?_) (fun hd => ?_)
  · refine g_aload_n C dX3_twice_16 rfl 1 rfl ?_
    obtain ⟨v3, hv3, hd⟩ := Option.bind_eq_some_iff.mp hd
    refine g_fld C gk_X3 (k := 14) (by decide) q1980 (Or.inl rfl) dX3_twice_17 (gR_v hv3) ?_
    refine g_iload_n C dX3_twice_20 rfl 0 rfl ?_
    obtain ⟨v4, hv4, hd⟩ := Option.bind_eq_some_iff.mp hd
    refine g_ialdV C dX3_twice_21 hv4 ?_
    refine g_if_ne (tgt := 29) C dX3_twice_22 (by decide) hd (fun hd => ?_) (fun hd => ?_)
    · refine g_iconst (v := 0) C dX3_twice_29 (by decide) ?_
      refine g_sub [1, 0] rfl ?_
      exact w_X3_twice_b30 C E Q _ _ _ _ _ hd
    · refine g_iconst (v := 2) C dX3_twice_25 (by decide) ?_
      refine g_goto (tgt := 30) C dX3_twice_26 (by decide) ?_
      refine g_sub [1, 0] rfl ?_
      exact w_X3_twice_b30 C E Q _ _ _ _ _ hd
  · refine g_iconst (v := 1) C dX3_twice_12 (by decide) ?_
    refine g_goto (tgt := 30) C dX3_twice_13 (by decide) ?_
    refine g_sub [1, 0] rfl ?_
    exact w_X3_twice_b30 C E Q _ _ _ _ _ hd
theorem m_X3_twice {Γ : GG} {HI : St → Heap → Prop} {l : Launch} (E : EH Γ HI l) {S : St} {a0 : Option Nat} {a1 : Int32} {r : Int32} {S1 : St} (h : n_X3_twice S a0 a1 = some (r, S1)) : MS Γ HI l yX3_twice cX3_twice 3 (some (Jvm.ClassFile.FieldType.int)) 3 S [vR a0, vI a1] (.inl (some (vI r))) S1 := by
  refine MS_of E.ntr E.hx (by decide +kernel) rfl (Nat.le_of_ble_eq_true rfl) fun K e1 e2 e3 e4 hnm C Q => ?_
  subst e1; subst e2; subst e3
  exact w_X3_twice_b0m C E Q S a0 a1 h

def n_X3_lose_b70 (S : St) (x0 : Option Nat) (x3 : Int32) (y0 : Int32) (y1 : Int32) (y2 : Int32) (y3 : Option Nat) : Option (Int32 × St) :=
  (sI S y3 0 y2 (y1 - y0)).bind fun S1 =>
  (gR S1 x0 15 14).bind fun v2 =>
  (aI S1 v2 0 x3).bind fun v3 =>
  rtI id (Jvm.ClassFile.FieldType.int) v3 S1
def n_X3_lose_b31 (S : St) (x0 : Option Nat) (x2 : Int32) (x3 : Int32) (y0 : Int32) (y1 : Option Nat) : Option (Int32 × St) :=
  (pI .int S y1 15 0 y0).bind fun S1 =>
  (gI S1 x0 15 0).bind fun v2 =>
  if v2 ≤ 0 then
    (gR S1 x0 15 14).bind fun v3 =>
    (aI S1 v3 0 x3).bind fun v4 =>
    (gR S1 x0 15 14).bind fun v5 =>
    (aI S1 v5 0 x3).bind fun v6 =>
    if v6 ≤ x2 then
      (gR S1 x0 15 14).bind fun v7 =>
      (aI S1 v7 0 x3).bind fun v8 =>
      n_X3_lose_b70 S1 x0 x3 v8 v4 x3 v3
    else
      n_X3_lose_b70 S1 x0 x3 x2 v4 x3 v3
  else
    rtI id (Jvm.ClassFile.FieldType.int) (0 : Int32) S1
def n_X3_lose (S : St) (x0 : Option Nat) (x1 : Int32) (x2 : Int32) : Option (Int32 × St) :=
  gd (grc S x0 15) <|
  bn (n_X3_rootAt S x0 x1) fun v2 S1 =>
  if v2 = (-1 : Int32) then
    n_X3_lose_b31 S1 x0 x2 v2 (1 : Int32) x0
  else
    bn (n_X3_in S1 x2 (1 : Int32) (8 : Int32)) fun v4 S3 =>
    if v4 = 0 then
      n_X3_lose_b31 S3 x0 x2 v2 (2 : Int32) x0
    else
      n_X3_lose_b31 S3 x0 x2 v2 (0 : Int32) x0
theorem w_X3_lose_b70 {K : KT} {r : Int32} {S1 : St} (C : GC K RX3 cX3_lose 4 3 []) (E : EH (kΓ K) (kHI K) (kl K)) (Q : GQ K (some (Jvm.ClassFile.FieldType.int)) (.inl (some (vI r))) S1) : ∀ (S : St) (x0 : Option Nat) (x3 : Int32) (y0 : Int32) (y1 : Int32) (y2 : Int32) (y3 : Option Nat), n_X3_lose_b70 S x0 x3 y0 y1 y2 y3 = some (r, S1) → G K 4 S 70 [(0, vR x0), (3, vI x3)] [vI y0, vI y1, vI y2, vR y3] := by
  intro S x0 x3 y0 y1 y2 y3 hd
  unfold n_X3_lose_b70 at hd
  refine g_isub C dX3_lose_70 ?_
  obtain ⟨S1, hS1, hd⟩ := Option.bind_eq_some_iff.mp hd
  refine g_iastV C dX3_lose_71 hS1 ?_
  refine g_aload_n C dX3_lose_72 rfl 0 rfl ?_
  obtain ⟨v2, hv2, hd⟩ := Option.bind_eq_some_iff.mp hd
  refine g_fld C gk_X3 (k := 14) (by decide) q1980 (Or.inl rfl) dX3_lose_73 (gR_v hv2) ?_
  refine g_iload_n C dX3_lose_76 rfl 1 rfl ?_
  obtain ⟨v3, hv3, hd⟩ := Option.bind_eq_some_iff.mp hd
  refine g_ialdV C dX3_lose_77 hv3 ?_
  exact g_iret C Q hd dX3_lose_78
theorem w_X3_lose_b31 {K : KT} {r : Int32} {S1 : St} (C : GC K RX3 cX3_lose 4 3 []) (E : EH (kΓ K) (kHI K) (kl K)) (Q : GQ K (some (Jvm.ClassFile.FieldType.int)) (.inl (some (vI r))) S1) : ∀ (S : St) (x0 : Option Nat) (x2 : Int32) (x3 : Int32) (y0 : Int32) (y1 : Option Nat), n_X3_lose_b31 S x0 x2 x3 y0 y1 = some (r, S1) → G K 4 S 31 [(0, vR x0), (2, vI x2), (3, vI x3)] [vI y0, vR y1] := by
  intro S x0 x2 x3 y0 y1 hd
  unfold n_X3_lose_b31 at hd
  obtain ⟨S1, hS1, hd⟩ := Option.bind_eq_some_iff.mp hd
  refine g_put C gk_X3 (k := 0) (by decide) q1966 (Or.inl rfl) rfl dX3_lose_31 (gfit_ok (pI_v hS1).1).1 (gfit_ok (pI_v hS1).1).2 (pI_v hS1).2 ?_
  refine g_aload_n C dX3_lose_34 rfl 0 rfl ?_
  obtain ⟨v2, hv2, hd⟩ := Option.bind_eq_some_iff.mp hd
  refine g_fld C gk_X3 (k := 0) (by decide) q1966 (Or.inl rfl) dX3_lose_35 (gI_v hv2) ?_
  refine g_if_le (tgt := 43) C dX3_lose_38 (by decide) hd (fun hd => ?_) (fun hd => ?_)
  · refine g_aload_n C dX3_lose_43 rfl 0 rfl ?_
    obtain ⟨v3, hv3, hd⟩ := Option.bind_eq_some_iff.mp hd
    refine g_fld C gk_X3 (k := 14) (by decide) q1980 (Or.inl rfl) dX3_lose_44 (gR_v hv3) ?_
    refine g_iload_n C dX3_lose_47 rfl 2 rfl ?_
    refine g_dup2 C dX3_lose_48 rfl rfl ?_
    obtain ⟨v4, hv4, hd⟩ := Option.bind_eq_some_iff.mp hd
    refine g_ialdV C dX3_lose_49 hv4 ?_
    refine g_iload_n C dX3_lose_50 rfl 1 rfl ?_
    refine g_aload_n C dX3_lose_51 rfl 0 rfl ?_
    obtain ⟨v5, hv5, hd⟩ := Option.bind_eq_some_iff.mp hd
    refine g_fld C gk_X3 (k := 14) (by decide) q1980 (Or.inl rfl) dX3_lose_52 (gR_v hv5) ?_
    refine g_iload_n C dX3_lose_55 rfl 2 rfl ?_
    obtain ⟨v6, hv6, hd⟩ := Option.bind_eq_some_iff.mp hd
    refine g_ialdV C dX3_lose_56 hv6 ?_
    refine g_icmp_ge (tgt := 64) C dX3_lose_57 (by decide) hd (fun hd => ?_) (fun hd => ?_)
    · refine g_aload_n C dX3_lose_64 rfl 0 rfl ?_
      obtain ⟨v7, hv7, hd⟩ := Option.bind_eq_some_iff.mp hd
      refine g_fld C gk_X3 (k := 14) (by decide) q1980 (Or.inl rfl) dX3_lose_65 (gR_v hv7) ?_
      refine g_iload_n C dX3_lose_68 rfl 2 rfl ?_
      obtain ⟨v8, hv8, hd⟩ := Option.bind_eq_some_iff.mp hd
      refine g_ialdV C dX3_lose_69 hv8 ?_
      refine g_sub [0, 2] rfl ?_
      exact w_X3_lose_b70 C E Q _ _ _ _ _ _ _ hd
    · refine g_iload_n C dX3_lose_60 rfl 1 rfl ?_
      refine g_goto (tgt := 70) C dX3_lose_61 (by decide) ?_
      refine g_sub [0, 2] rfl ?_
      exact w_X3_lose_b70 C E Q _ _ _ _ _ _ _ hd
  · refine g_iconst (v := 0) C dX3_lose_41 (by decide) ?_
    exact g_iret C Q hd dX3_lose_42
theorem w_X3_lose_b0m {K : KT} {r : Int32} {S1 : St} (C : GC K RX3 cX3_lose 4 3 []) (E : EH (kΓ K) (kHI K) (kl K)) (Q : GQ K (some (Jvm.ClassFile.FieldType.int)) (.inl (some (vI r))) S1) : ∀ (S : St) (x0 : Option Nat) (x1 : Int32) (x2 : Int32), n_X3_lose S x0 x1 x2 = some (r, S1) → G K 4 S 0 [(0, vR x0), (1, vI x1), (2, vI x2)] [] := by
  intro S x0 x1 x2 hd
  unfold n_X3_lose at hd
  refine g_aload_n C dX3_lose_0 rfl 0 rfl ?_
  refine g_iload_n C dX3_lose_1 rfl 1 rfl ?_
  obtain ⟨hg, hd⟩ := gd_some hd
  obtain ⟨v2, S1, hc, hd⟩ := bn_some hd
  refine g_cV_v (n := 1) C (gk_X3).1 q2167 q2169 qs60 q108 q2170 (by decide +kernel) (by decide) (by decide) dX3_lose_2 (As := [vI x1]) (rest := []) rfl rfl (Nat.le_of_ble_eq_true rfl) hg (m_X3_rootAt E hc) ?_
  refine g_istore_n (L' := [(3, vI v2), (0, vR x0), (1, vI x1), (2, vI x2)]) C dX3_lose_5 rfl (by decide) rfl ?_
  refine g_aload_n C dX3_lose_6 rfl 1 rfl ?_
  refine g_iload_n C dX3_lose_7 rfl 0 rfl ?_
  refine g_iconst (v := (-1)) C dX3_lose_8 (by decide) ?_
  refine g_icmp_ne (tgt := 16) C dX3_lose_9 (by decide) hd (fun hd => ?_) (fun hd => ?_)
  · refine g_iload_n C dX3_lose_16 rfl 3 rfl ?_
    refine g_iconst (v := 1) C dX3_lose_17 (by decide) ?_
    refine g_bipush (v := 8) C dX3_lose_18 (by decide) ?_
    obtain ⟨v4, S3, hc, hd⟩ := bn_some hd
    refine g_cS_v (n := 3) C q2124 q2125 q108 q2126 (by decide +kernel) (by decide) (by decide) dX3_lose_20 (As := [vI x2, vI (1 : Int32), vI (8 : Int32)]) (rest := [vR x0]) rfl rfl (Nat.le_of_ble_eq_true rfl) (m_X3_in E hc) ?_
    refine g_if_eq (tgt := 30) C dX3_lose_23 (by decide) hd (fun hd => ?_) (fun hd => ?_)
    · refine g_iconst (v := 2) C dX3_lose_30 (by decide) ?_
      refine g_sub [1, 3, 0] rfl ?_
      exact w_X3_lose_b31 C E Q _ _ _ _ _ _ hd
    · refine g_iconst (v := 0) C dX3_lose_26 (by decide) ?_
      refine g_goto (tgt := 31) C dX3_lose_27 (by decide) ?_
      refine g_sub [1, 3, 0] rfl ?_
      exact w_X3_lose_b31 C E Q _ _ _ _ _ _ hd
  · refine g_iconst (v := 1) C dX3_lose_12 (by decide) ?_
    refine g_goto (tgt := 31) C dX3_lose_13 (by decide) ?_
    refine g_sub [1, 3, 0] rfl ?_
    exact w_X3_lose_b31 C E Q _ _ _ _ _ _ hd
theorem m_X3_lose {Γ : GG} {HI : St → Heap → Prop} {l : Launch} (E : EH Γ HI l) {S : St} {a0 : Option Nat} {a1 : Int32} {a2 : Int32} {r : Int32} {S1 : St} (h : n_X3_lose S a0 a1 a2 = some (r, S1)) : MS Γ HI l yX3_lose cX3_lose 4 (some (Jvm.ClassFile.FieldType.int)) 3 S [vR a0, vI a1, vI a2] (.inl (some (vI r))) S1 := by
  refine MS_of E.ntr E.hx (by decide +kernel) rfl (Nat.le_of_ble_eq_true rfl) fun K e1 e2 e3 e4 hnm C Q => ?_
  subst e1; subst e2; subst e3
  exact w_X3_lose_b0m C E Q S a0 a1 a2 h

def n_X3_pass_b52 (S : St) (x0 : Option Nat) (y0 : Int32) (y1 : Int32) (y2 : Option Nat) : Option (Int32 × St) :=
  (pI .int S y2 15 1 (y1 + y0)).bind fun S1 =>
  (gI S1 x0 15 0).bind fun v2 =>
  if v2 ≤ 0 then
    (gI S1 x0 15 1).bind fun v3 =>
    rtI id (Jvm.ClassFile.FieldType.int) v3 S1
  else
    rtI id (Jvm.ClassFile.FieldType.int) (0 : Int32) S1
def n_X3_pass_b32 (S : St) (x0 : Option Nat) (x1 : Int32) (y0 : Int32) (y1 : Option Nat) : Option (Int32 × St) :=
  (pI .int S y1 15 0 y0).bind fun S1 =>
  (gI S1 x0 15 1).bind fun v2 =>
  (gI S1 x0 15 0).bind fun v3 =>
  if v3 = 0 then
    n_X3_pass_b52 S1 x0 x1 v2 x0
  else
    n_X3_pass_b52 S1 x0 (0 : Int32) v2 x0
def n_X3_pass (S : St) (x0 : Option Nat) (x1 : Int32) : Option (Int32 × St) :=
  bn (n_X3_in S x1 (1 : Int32) (1000 : Int32)) fun v2 S1 =>
  if v2 = 0 then
    n_X3_pass_b32 S1 x0 x1 (1 : Int32) x0
  else
    (gI S1 x0 15 1).bind fun v3 =>
    if (v3 + x1) ≤ (100000 : Int32) then
      n_X3_pass_b32 S1 x0 x1 (0 : Int32) x0
    else
      n_X3_pass_b32 S1 x0 x1 (2 : Int32) x0
theorem w_X3_pass_b52 {K : KT} {r : Int32} {S1 : St} (C : GC K RX3 cX3_pass 2 3 []) (E : EH (kΓ K) (kHI K) (kl K)) (Q : GQ K (some (Jvm.ClassFile.FieldType.int)) (.inl (some (vI r))) S1) : ∀ (S : St) (x0 : Option Nat) (y0 : Int32) (y1 : Int32) (y2 : Option Nat), n_X3_pass_b52 S x0 y0 y1 y2 = some (r, S1) → G K 2 S 52 [(0, vR x0)] [vI y0, vI y1, vR y2] := by
  intro S x0 y0 y1 y2 hd
  unfold n_X3_pass_b52 at hd
  refine g_iadd C dX3_pass_52 ?_
  obtain ⟨S1, hS1, hd⟩ := Option.bind_eq_some_iff.mp hd
  refine g_put C gk_X3 (k := 1) (by decide) q1967 (Or.inl rfl) rfl dX3_pass_53 (gfit_ok (pI_v hS1).1).1 (gfit_ok (pI_v hS1).1).2 (pI_v hS1).2 ?_
  refine g_aload_n C dX3_pass_56 rfl 0 rfl ?_
  obtain ⟨v2, hv2, hd⟩ := Option.bind_eq_some_iff.mp hd
  refine g_fld C gk_X3 (k := 0) (by decide) q1966 (Or.inl rfl) dX3_pass_57 (gI_v hv2) ?_
  refine g_if_le (tgt := 67) C dX3_pass_60 (by decide) hd (fun hd => ?_) (fun hd => ?_)
  · refine g_aload_n C dX3_pass_67 rfl 0 rfl ?_
    obtain ⟨v3, hv3, hd⟩ := Option.bind_eq_some_iff.mp hd
    refine g_fld C gk_X3 (k := 1) (by decide) q1967 (Or.inl rfl) dX3_pass_68 (gI_v hv3) ?_
    exact g_iret C Q hd dX3_pass_71
  · refine g_iconst (v := 0) C dX3_pass_63 (by decide) ?_
    refine g_goto (tgt := 71) C dX3_pass_64 (by decide) ?_
    exact g_iret C Q hd dX3_pass_71
theorem w_X3_pass_b32 {K : KT} {r : Int32} {S1 : St} (C : GC K RX3 cX3_pass 2 3 []) (E : EH (kΓ K) (kHI K) (kl K)) (Q : GQ K (some (Jvm.ClassFile.FieldType.int)) (.inl (some (vI r))) S1) : ∀ (S : St) (x0 : Option Nat) (x1 : Int32) (y0 : Int32) (y1 : Option Nat), n_X3_pass_b32 S x0 x1 y0 y1 = some (r, S1) → G K 2 S 32 [(0, vR x0), (1, vI x1)] [vI y0, vR y1] := by
  intro S x0 x1 y0 y1 hd
  unfold n_X3_pass_b32 at hd
  obtain ⟨S1, hS1, hd⟩ := Option.bind_eq_some_iff.mp hd
  refine g_put C gk_X3 (k := 0) (by decide) q1966 (Or.inl rfl) rfl dX3_pass_32 (gfit_ok (pI_v hS1).1).1 (gfit_ok (pI_v hS1).1).2 (pI_v hS1).2 ?_
  refine g_aload_n C dX3_pass_35 rfl 0 rfl ?_
  refine g_dup C dX3_pass_36 rfl ?_
  obtain ⟨v2, hv2, hd⟩ := Option.bind_eq_some_iff.mp hd
  refine g_fld C gk_X3 (k := 1) (by decide) q1967 (Or.inl rfl) dX3_pass_37 (gI_v hv2) ?_
  refine g_aload_n C dX3_pass_40 rfl 0 rfl ?_
  obtain ⟨v3, hv3, hd⟩ := Option.bind_eq_some_iff.mp hd
  refine g_fld C gk_X3 (k := 0) (by decide) q1966 (Or.inl rfl) dX3_pass_41 (gI_v hv3) ?_
  refine g_if_ne (tgt := 51) C dX3_pass_44 (by decide) hd (fun hd => ?_) (fun hd => ?_)
  · refine g_iconst (v := 0) C dX3_pass_51 (by decide) ?_
    refine g_sub [0] rfl ?_
    exact w_X3_pass_b52 C E Q _ _ _ _ _ hd
  · refine g_iload_n C dX3_pass_47 rfl 1 rfl ?_
    refine g_goto (tgt := 52) C dX3_pass_48 (by decide) ?_
    refine g_sub [0] rfl ?_
    exact w_X3_pass_b52 C E Q _ _ _ _ _ hd
theorem w_X3_pass_b0m {K : KT} {r : Int32} {S1 : St} (C : GC K RX3 cX3_pass 2 3 []) (E : EH (kΓ K) (kHI K) (kl K)) (Q : GQ K (some (Jvm.ClassFile.FieldType.int)) (.inl (some (vI r))) S1) : ∀ (S : St) (x0 : Option Nat) (x1 : Int32), n_X3_pass S x0 x1 = some (r, S1) → G K 2 S 0 [(0, vR x0), (1, vI x1)] [] := by
  intro S x0 x1 hd
  unfold n_X3_pass at hd
  refine g_aload_n C dX3_pass_0 rfl 0 rfl ?_
  refine g_iload_n C dX3_pass_1 rfl 1 rfl ?_
  refine g_iconst (v := 1) C dX3_pass_2 (by decide) ?_
  refine g_sipush (v := 1000) C dX3_pass_3 (by decide) ?_
  obtain ⟨v2, S1, hc, hd⟩ := bn_some hd
  refine g_cS_v (n := 3) C q2124 q2125 q108 q2126 (by decide +kernel) (by decide) (by decide) dX3_pass_6 (As := [vI x1, vI (1 : Int32), vI (1000 : Int32)]) (rest := [vR x0]) rfl rfl (Nat.le_of_ble_eq_true rfl) (m_X3_in E hc) ?_
  refine g_if_ne (tgt := 16) C dX3_pass_9 (by decide) hd (fun hd => ?_) (fun hd => ?_)
  · refine g_aload_n C dX3_pass_16 rfl 0 rfl ?_
    obtain ⟨v3, hv3, hd⟩ := Option.bind_eq_some_iff.mp hd
    refine g_fld C gk_X3 (k := 1) (by decide) q1967 (Or.inl rfl) dX3_pass_17 (gI_v hv3) ?_
    refine g_iload_n C dX3_pass_20 rfl 1 rfl ?_
    refine g_iadd C dX3_pass_21 ?_
    refine g_ldc C q2231 dX3_pass_22 ?_
    refine g_icmp_le (tgt := 31) C dX3_pass_24 (by decide) hd (fun hd => ?_) (fun hd => ?_)
    · refine g_iconst (v := 0) C dX3_pass_31 (by decide) ?_
      refine g_sub [0, 1] rfl ?_
      exact w_X3_pass_b32 C E Q _ _ _ _ _ hd
    · refine g_iconst (v := 2) C dX3_pass_27 (by decide) ?_
      refine g_goto (tgt := 32) C dX3_pass_28 (by decide) ?_
      refine g_sub [0, 1] rfl ?_
      exact w_X3_pass_b32 C E Q _ _ _ _ _ hd
  · refine g_iconst (v := 1) C dX3_pass_12 (by decide) ?_
    refine g_goto (tgt := 32) C dX3_pass_13 (by decide) ?_
    refine g_sub [0, 1] rfl ?_
    exact w_X3_pass_b32 C E Q _ _ _ _ _ hd
theorem m_X3_pass {Γ : GG} {HI : St → Heap → Prop} {l : Launch} (E : EH Γ HI l) {S : St} {a0 : Option Nat} {a1 : Int32} {r : Int32} {S1 : St} (h : n_X3_pass S a0 a1 = some (r, S1)) : MS Γ HI l yX3_pass cX3_pass 2 (some (Jvm.ClassFile.FieldType.int)) 3 S [vR a0, vI a1] (.inl (some (vI r))) S1 := by
  refine MS_of E.ntr E.hx (by decide +kernel) rfl (Nat.le_of_ble_eq_true rfl) fun K e1 e2 e3 e4 hnm C Q => ?_
  subst e1; subst e2; subst e3
  exact w_X3_pass_b0m C E Q S a0 a1 h

def n_X3_battery (S : St) (x0 : Option Nat) (x1 : Int32) : Option (Int32 × St) :=
  (pI .int S x0 15 0 (0 : Int32)).bind fun S1 =>
  (gI S1 x0 15 34).bind fun v2 =>
  (pI .boolean S1 x0 15 34 x1).bind fun S3 =>
  rtI id (Jvm.ClassFile.FieldType.boolean) v2 S3
theorem w_X3_battery_b0m {K : KT} {r : Int32} {S1 : St} (C : GC K RX3 cX3_battery 3 2 []) (E : EH (kΓ K) (kHI K) (kl K)) (Q : GQ K (some (Jvm.ClassFile.FieldType.boolean)) (.inl (some (vI r))) S1) : ∀ (S : St) (x0 : Option Nat) (x1 : Int32), n_X3_battery S x0 x1 = some (r, S1) → G K 3 S 0 [(0, vR x0), (1, vI x1)] [] := by
  intro S x0 x1 hd
  unfold n_X3_battery at hd
  refine g_aload_n C dX3_battery_0 rfl 0 rfl ?_
  refine g_iconst (v := 0) C dX3_battery_1 (by decide) ?_
  obtain ⟨S1, hS1, hd⟩ := Option.bind_eq_some_iff.mp hd
  refine g_put C gk_X3 (k := 0) (by decide) q1966 (Or.inl rfl) rfl dX3_battery_2 (gfit_ok (pI_v hS1).1).1 (gfit_ok (pI_v hS1).1).2 (pI_v hS1).2 ?_
  refine g_aload_n C dX3_battery_5 rfl 0 rfl ?_
  obtain ⟨v2, hv2, hd⟩ := Option.bind_eq_some_iff.mp hd
  refine g_fld C gk_X3 (k := 34) (by decide) q2000 (Or.inl rfl) dX3_battery_6 (gI_v hv2) ?_
  refine g_istore_n (L' := [(2, vI v2), (0, vR x0), (1, vI x1)]) C dX3_battery_9 rfl (by decide) rfl ?_
  refine g_aload_n C dX3_battery_10 rfl 1 rfl ?_
  refine g_iload_n C dX3_battery_11 rfl 2 rfl ?_
  obtain ⟨S3, hS3, hd⟩ := Option.bind_eq_some_iff.mp hd
  refine g_put C gk_X3 (k := 34) (by decide) q2000 (Or.inl rfl) rfl dX3_battery_12 (gfit_ok (pI_v hS3).1).1 (gfit_ok (pI_v hS3).1).2 (pI_v hS3).2 ?_
  refine g_iload_n C dX3_battery_15 rfl 0 rfl ?_
  exact g_iret C Q hd dX3_battery_16
theorem m_X3_battery {Γ : GG} {HI : St → Heap → Prop} {l : Launch} (E : EH Γ HI l) {S : St} {a0 : Option Nat} {a1 : Int32} {r : Int32} {S1 : St} (h : n_X3_battery S a0 a1 = some (r, S1)) : MS Γ HI l yX3_battery cX3_battery 3 (some (Jvm.ClassFile.FieldType.boolean)) 2 S [vR a0, vI a1] (.inl (some (vI r))) S1 := by
  refine MS_of E.ntr E.hx (by decide +kernel) rfl (Nat.le_of_ble_eq_true rfl) fun K e1 e2 e3 e4 hnm C Q => ?_
  subst e1; subst e2; subst e3
  exact w_X3_battery_b0m C E Q S a0 a1 h

def n_X3_limits_b25 (S : St) (x0 : Option Nat) (x1 : Int32) (x2 : Int32) (y0 : Int32) (y1 : Option Nat) : Option (Int32 × St) :=
  (pI .int S y1 15 0 y0).bind fun S1 =>
  (gI S1 x0 15 0).bind fun v2 =>
  if v2 ≤ 0 then
    (gI S1 x0 15 29).bind fun v3 =>
    (pI .int S1 x0 15 28 x1).bind fun S4 =>
    (pI .int S4 x0 15 29 x2).bind fun S5 =>
    rtI id (Jvm.ClassFile.FieldType.int) v3 S5
  else
    rtI id (Jvm.ClassFile.FieldType.int) (0 : Int32) S1
def n_X3_limits_b24 (S : St) (x0 : Option Nat) (x1 : Int32) (x2 : Int32) (y0 : Option Nat) : Option (Int32 × St) :=
  n_X3_limits_b25 S x0 x1 x2 (1 : Int32) y0
def n_X3_limits (S : St) (x0 : Option Nat) (x1 : Int32) (x2 : Int32) : Option (Int32 × St) :=
  bn (n_X3_in S x1 (0 : Int32) (3 : Int32)) fun v2 S1 =>
  if v2 = 0 then
    n_X3_limits_b24 S1 x0 x1 x2 x0
  else
    bn (n_X3_in S1 x2 (1 : Int32) (20 : Int32)) fun v4 S3 =>
    if v4 = 0 then
      n_X3_limits_b24 S3 x0 x1 x2 x0
    else
      n_X3_limits_b25 S3 x0 x1 x2 (0 : Int32) x0
theorem w_X3_limits_b25 {K : KT} {r : Int32} {S1 : St} (C : GC K RX3 cX3_limits 4 3 []) (E : EH (kΓ K) (kHI K) (kl K)) (Q : GQ K (some (Jvm.ClassFile.FieldType.int)) (.inl (some (vI r))) S1) : ∀ (S : St) (x0 : Option Nat) (x1 : Int32) (x2 : Int32) (y0 : Int32) (y1 : Option Nat), n_X3_limits_b25 S x0 x1 x2 y0 y1 = some (r, S1) → G K 4 S 25 [(0, vR x0), (1, vI x1), (2, vI x2)] [vI y0, vR y1] := by
  intro S x0 x1 x2 y0 y1 hd
  unfold n_X3_limits_b25 at hd
  obtain ⟨S1, hS1, hd⟩ := Option.bind_eq_some_iff.mp hd
  refine g_put C gk_X3 (k := 0) (by decide) q1966 (Or.inl rfl) rfl dX3_limits_25 (gfit_ok (pI_v hS1).1).1 (gfit_ok (pI_v hS1).1).2 (pI_v hS1).2 ?_
  refine g_aload_n C dX3_limits_28 rfl 0 rfl ?_
  obtain ⟨v2, hv2, hd⟩ := Option.bind_eq_some_iff.mp hd
  refine g_fld C gk_X3 (k := 0) (by decide) q1966 (Or.inl rfl) dX3_limits_29 (gI_v hv2) ?_
  refine g_if_le (tgt := 37) C dX3_limits_32 (by decide) hd (fun hd => ?_) (fun hd => ?_)
  · refine g_aload_n C dX3_limits_37 rfl 0 rfl ?_
    obtain ⟨v3, hv3, hd⟩ := Option.bind_eq_some_iff.mp hd
    refine g_fld C gk_X3 (k := 29) (by decide) q1995 (Or.inl rfl) dX3_limits_38 (gI_v hv3) ?_
    refine g_istore_n (L' := [(3, vI v3), (0, vR x0), (1, vI x1), (2, vI x2)]) C dX3_limits_41 rfl (by decide) rfl ?_
    refine g_aload_n C dX3_limits_42 rfl 1 rfl ?_
    refine g_iload_n C dX3_limits_43 rfl 2 rfl ?_
    obtain ⟨S4, hS4, hd⟩ := Option.bind_eq_some_iff.mp hd
    refine g_put C gk_X3 (k := 28) (by decide) q1994 (Or.inl rfl) rfl dX3_limits_44 (gfit_ok (pI_v hS4).1).1 (gfit_ok (pI_v hS4).1).2 (pI_v hS4).2 ?_
    refine g_aload_n C dX3_limits_47 rfl 1 rfl ?_
    refine g_iload_n C dX3_limits_48 rfl 3 rfl ?_
    obtain ⟨S5, hS5, hd⟩ := Option.bind_eq_some_iff.mp hd
    refine g_put C gk_X3 (k := 29) (by decide) q1995 (Or.inl rfl) rfl dX3_limits_49 (gfit_ok (pI_v hS5).1).1 (gfit_ok (pI_v hS5).1).2 (pI_v hS5).2 ?_
    refine g_iload_n C dX3_limits_52 rfl 0 rfl ?_
    exact g_iret C Q hd dX3_limits_53
  · refine g_iconst (v := 0) C dX3_limits_35 (by decide) ?_
    exact g_iret C Q hd dX3_limits_36
theorem w_X3_limits_b24 {K : KT} {r : Int32} {S1 : St} (C : GC K RX3 cX3_limits 4 3 []) (E : EH (kΓ K) (kHI K) (kl K)) (Q : GQ K (some (Jvm.ClassFile.FieldType.int)) (.inl (some (vI r))) S1) : ∀ (S : St) (x0 : Option Nat) (x1 : Int32) (x2 : Int32) (y0 : Option Nat), n_X3_limits_b24 S x0 x1 x2 y0 = some (r, S1) → G K 4 S 24 [(0, vR x0), (1, vI x1), (2, vI x2)] [vR y0] := by
  intro S x0 x1 x2 y0 hd
  unfold n_X3_limits_b24 at hd
  refine g_iconst (v := 1) C dX3_limits_24 (by decide) ?_
  refine g_sub [0, 1, 2] rfl ?_
  exact w_X3_limits_b25 C E Q _ _ _ _ _ _ hd
theorem w_X3_limits_b0m {K : KT} {r : Int32} {S1 : St} (C : GC K RX3 cX3_limits 4 3 []) (E : EH (kΓ K) (kHI K) (kl K)) (Q : GQ K (some (Jvm.ClassFile.FieldType.int)) (.inl (some (vI r))) S1) : ∀ (S : St) (x0 : Option Nat) (x1 : Int32) (x2 : Int32), n_X3_limits S x0 x1 x2 = some (r, S1) → G K 4 S 0 [(0, vR x0), (1, vI x1), (2, vI x2)] [] := by
  intro S x0 x1 x2 hd
  unfold n_X3_limits at hd
  refine g_aload_n C dX3_limits_0 rfl 0 rfl ?_
  refine g_iload_n C dX3_limits_1 rfl 1 rfl ?_
  refine g_iconst (v := 0) C dX3_limits_2 (by decide) ?_
  refine g_iconst (v := 3) C dX3_limits_3 (by decide) ?_
  obtain ⟨v2, S1, hc, hd⟩ := bn_some hd
  refine g_cS_v (n := 3) C q2124 q2125 q108 q2126 (by decide +kernel) (by decide) (by decide) dX3_limits_4 (As := [vI x1, vI (0 : Int32), vI (3 : Int32)]) (rest := [vR x0]) rfl rfl (Nat.le_of_ble_eq_true rfl) (m_X3_in E hc) ?_
  refine g_if_eq (tgt := 24) C dX3_limits_7 (by decide) hd (fun hd => ?_) (fun hd => ?_)
  · refine g_sub [0, 1, 2] rfl ?_
    exact w_X3_limits_b24 C E Q _ _ _ _ _ hd
  · refine g_iload_n C dX3_limits_10 rfl 2 rfl ?_
    refine g_iconst (v := 1) C dX3_limits_11 (by decide) ?_
    refine g_bipush (v := 20) C dX3_limits_12 (by decide) ?_
    obtain ⟨v4, S3, hc, hd⟩ := bn_some hd
    refine g_cS_v (n := 3) C q2124 q2125 q108 q2126 (by decide +kernel) (by decide) (by decide) dX3_limits_14 (As := [vI x2, vI (1 : Int32), vI (20 : Int32)]) (rest := [vR x0]) rfl rfl (Nat.le_of_ble_eq_true rfl) (m_X3_in E hc) ?_
    refine g_if_eq (tgt := 24) C dX3_limits_17 (by decide) hd (fun hd => ?_) (fun hd => ?_)
    · refine g_sub [0, 1, 2] rfl ?_
      exact w_X3_limits_b24 C E Q _ _ _ _ _ hd
    · refine g_iconst (v := 0) C dX3_limits_20 (by decide) ?_
      refine g_goto (tgt := 25) C dX3_limits_21 (by decide) ?_
      refine g_sub [0, 1, 2] rfl ?_
      exact w_X3_limits_b25 C E Q _ _ _ _ _ _ hd
theorem m_X3_limits {Γ : GG} {HI : St → Heap → Prop} {l : Launch} (E : EH Γ HI l) {S : St} {a0 : Option Nat} {a1 : Int32} {a2 : Int32} {r : Int32} {S1 : St} (h : n_X3_limits S a0 a1 a2 = some (r, S1)) : MS Γ HI l yX3_limits cX3_limits 4 (some (Jvm.ClassFile.FieldType.int)) 3 S [vR a0, vI a1, vI a2] (.inl (some (vI r))) S1 := by
  refine MS_of E.ntr E.hx (by decide +kernel) rfl (Nat.le_of_ble_eq_true rfl) fun K e1 e2 e3 e4 hnm C Q => ?_
  subst e1; subst e2; subst e3
  exact w_X3_limits_b0m C E Q S a0 a1 a2 h

def n_X3_crawl_b64 (k39 : St → Option Nat → Int32 → Int32 → Option (Int32 × St)) (S : St) (x0 : Option Nat) (x4 : Int32) (y0 : Int32) (y1 : Int32) : Option (Int32 × St) :=
  k39 S x0 (y1 + y0) (x4 + 1)
def n_X3_crawl_b39 : Nat → St → Option Nat → Int32 → Int32 → Option (Int32 × St)
  | 0 => fun _ _ _ _ => none
  | n + 1 => fun S x0 x3 x4 =>
    (gI S x0 15 12).bind fun v1 =>
    if v1 ≤ x4 then
      rtI id (Jvm.ClassFile.FieldType.int) x3 S
    else
      (gR S x0 15 18).bind fun v2 =>
      (aI S v2 1 x4).bind fun v3 =>
      if v3 = 0 then
        n_X3_crawl_b64 (n_X3_crawl_b39 n) S x0 x4 (0 : Int32) x3
      else
        n_X3_crawl_b64 (n_X3_crawl_b39 n) S x0 x4 (1 : Int32) x3
def n_X3_crawl_b17 (S : St) (x0 : Option Nat) (x2 : Int32) (y0 : Int32) (y1 : Option Nat) : Option (Int32 × St) :=
  (pI .int S y1 15 0 y0).bind fun S1 =>
  (gI S1 x0 15 0).bind fun v2 =>
  if v2 ≤ 0 then
    gd (grc S1 x0 15) <|
    bn (n_X3_beginsCrawl S1 x0 x2) fun _ S3 =>
    n_X3_crawl_b39 FU S3 x0 (0 : Int32) (0 : Int32)
  else
    rtI id (Jvm.ClassFile.FieldType.int) (0 : Int32) S1
def n_X3_crawl (S : St) (x0 : Option Nat) (x1 : Int32) : Option (Int32 × St) :=
  gd (grc S x0 15) <|
  bn (n_X3_rootAt S x0 x1) fun v2 S1 =>
  if v2 = (-1 : Int32) then
    n_X3_crawl_b17 S1 x0 v2 (1 : Int32) x0
  else
    n_X3_crawl_b17 S1 x0 v2 (0 : Int32) x0
theorem w_X3_crawl_b64 {K : KT} {r : Int32} {S1 : St} (C : GC K RX3 cX3_crawl 5 3 []) (E : EH (kΓ K) (kHI K) (kl K)) (Q : GQ K (some (Jvm.ClassFile.FieldType.int)) (.inl (some (vI r))) S1) {k39 : St → Option Nat → Int32 → Int32 → Option (Int32 × St)} (h39 : ∀ (S : St) (x0 : Option Nat) (x3 : Int32) (x4 : Int32), k39 S x0 x3 x4 = some (r, S1) → G K 5 S 39 [(0, vR x0), (3, vI x3), (4, vI x4)] []) : ∀ (S : St) (x0 : Option Nat) (x4 : Int32) (y0 : Int32) (y1 : Int32), n_X3_crawl_b64 k39 S x0 x4 y0 y1 = some (r, S1) → G K 5 S 64 [(0, vR x0), (4, vI x4)] [vI y0, vI y1] := by
  intro S x0 x4 y0 y1 hd
  unfold n_X3_crawl_b64 at hd
  refine g_iadd C dX3_crawl_64 ?_
  refine g_istore_n (L' := [(3, vI (y1 + y0)), (0, vR x0), (4, vI x4)]) C dX3_crawl_65 rfl (by decide) rfl ?_
  refine g_iinc (v := x4 + 1) (L' := [(4, vI (x4 + 1)), (3, vI (y1 + y0)), (0, vR x0)]) C dX3_crawl_66 2 rfl rfl (by decide) rfl ?_
  refine g_goto (tgt := 39) C dX3_crawl_69 (by decide) ?_
  refine g_sub [2, 1, 0] rfl ?_
  exact h39 _ _ _ _ hd
theorem w_X3_crawl_b39 {K : KT} {r : Int32} {S1 : St} (C : GC K RX3 cX3_crawl 5 3 []) (E : EH (kΓ K) (kHI K) (kl K)) (Q : GQ K (some (Jvm.ClassFile.FieldType.int)) (.inl (some (vI r))) S1) : ∀ (n : Nat) (S : St) (x0 : Option Nat) (x3 : Int32) (x4 : Int32), n_X3_crawl_b39 n S x0 x3 x4 = some (r, S1) → G K 5 S 39 [(0, vR x0), (3, vI x3), (4, vI x4)] [] := by
  intro n
  induction n with
  | zero => intro S x0 x3 x4 hd; cases hd
  | succ n ih =>
    intro S x0 x3 x4 hd
    unfold n_X3_crawl_b39 at hd
    refine g_iload C dX3_crawl_39 2 rfl ?_
    refine g_aload_n C dX3_crawl_41 rfl 0 rfl ?_
    obtain ⟨v1, hv1, hd⟩ := Option.bind_eq_some_iff.mp hd
    refine g_fld C gk_X3 (k := 12) (by decide) q1978 (Or.inl rfl) dX3_crawl_42 (gI_v hv1) ?_
    refine g_icmp_ge (tgt := 72) C dX3_crawl_45 (by decide) hd (fun hd => ?_) (fun hd => ?_)
    · refine g_iload_n C dX3_crawl_72 rfl 1 rfl ?_
      exact g_iret C Q hd dX3_crawl_73
    · refine g_iload_n C dX3_crawl_48 rfl 1 rfl ?_
      refine g_aload_n C dX3_crawl_49 rfl 0 rfl ?_
      obtain ⟨v2, hv2, hd⟩ := Option.bind_eq_some_iff.mp hd
      refine g_fld C gk_X3 (k := 18) (by decide) q1984 (Or.inl rfl) dX3_crawl_50 (gR_v hv2) ?_
      refine g_iload C dX3_crawl_53 2 rfl ?_
      obtain ⟨v3, hv3, hd⟩ := Option.bind_eq_some_iff.mp hd
      refine g_zaldV C dX3_crawl_55 hv3 ?_
      refine g_if_eq (tgt := 63) C dX3_crawl_56 (by decide) hd (fun hd => ?_) (fun hd => ?_)
      · refine g_iconst (v := 0) C dX3_crawl_63 (by decide) ?_
        refine g_sub [0, 2] rfl ?_
        exact w_X3_crawl_b64 C E Q ih _ _ _ _ _ hd
      · refine g_iconst (v := 1) C dX3_crawl_59 (by decide) ?_
        refine g_goto (tgt := 64) C dX3_crawl_60 (by decide) ?_
        refine g_sub [0, 2] rfl ?_
        exact w_X3_crawl_b64 C E Q ih _ _ _ _ _ hd
theorem w_X3_crawl_b17 {K : KT} {r : Int32} {S1 : St} (C : GC K RX3 cX3_crawl 5 3 []) (E : EH (kΓ K) (kHI K) (kl K)) (Q : GQ K (some (Jvm.ClassFile.FieldType.int)) (.inl (some (vI r))) S1) : ∀ (S : St) (x0 : Option Nat) (x2 : Int32) (y0 : Int32) (y1 : Option Nat), n_X3_crawl_b17 S x0 x2 y0 y1 = some (r, S1) → G K 5 S 17 [(0, vR x0), (2, vI x2)] [vI y0, vR y1] := by
  intro S x0 x2 y0 y1 hd
  unfold n_X3_crawl_b17 at hd
  obtain ⟨S1, hS1, hd⟩ := Option.bind_eq_some_iff.mp hd
  refine g_put C gk_X3 (k := 0) (by decide) q1966 (Or.inl rfl) rfl dX3_crawl_17 (gfit_ok (pI_v hS1).1).1 (gfit_ok (pI_v hS1).1).2 (pI_v hS1).2 ?_
  refine g_aload_n C dX3_crawl_20 rfl 0 rfl ?_
  obtain ⟨v2, hv2, hd⟩ := Option.bind_eq_some_iff.mp hd
  refine g_fld C gk_X3 (k := 0) (by decide) q1966 (Or.inl rfl) dX3_crawl_21 (gI_v hv2) ?_
  refine g_if_le (tgt := 29) C dX3_crawl_24 (by decide) hd (fun hd => ?_) (fun hd => ?_)
  · refine g_aload_n C dX3_crawl_29 rfl 0 rfl ?_
    refine g_iload_n C dX3_crawl_30 rfl 1 rfl ?_
    obtain ⟨hg, hd⟩ := gd_some hd
    obtain ⟨_, S3, hc, hd⟩ := bn_some hd
    refine g_cV_n (n := 1) C (gk_X3).1 q2211 q2213 qs65 q108 q2214 (by decide +kernel) (by decide) (by decide) dX3_crawl_31 (As := [vI x2]) (rest := []) rfl rfl (Nat.le_of_ble_eq_true rfl) hg (m_X3_beginsCrawl E hc) ?_
    refine g_iconst (v := 0) C dX3_crawl_34 (by decide) ?_
    refine g_istore_n (L' := [(3, vI (0 : Int32)), (0, vR x0), (2, vI x2)]) C dX3_crawl_35 rfl (by decide) rfl ?_
    refine g_iconst (v := 0) C dX3_crawl_36 (by decide) ?_
    refine g_istore (L' := [(4, vI (0 : Int32)), (3, vI (0 : Int32)), (0, vR x0), (2, vI x2)]) C dX3_crawl_37 (by decide) rfl ?_
    refine g_sub [2, 1, 0] rfl ?_
    exact w_X3_crawl_b39 C E Q FU _ _ _ _ hd
  · refine g_iconst (v := 0) C dX3_crawl_27 (by decide) ?_
    exact g_iret C Q hd dX3_crawl_28
theorem w_X3_crawl_b0m {K : KT} {r : Int32} {S1 : St} (C : GC K RX3 cX3_crawl 5 3 []) (E : EH (kΓ K) (kHI K) (kl K)) (Q : GQ K (some (Jvm.ClassFile.FieldType.int)) (.inl (some (vI r))) S1) : ∀ (S : St) (x0 : Option Nat) (x1 : Int32), n_X3_crawl S x0 x1 = some (r, S1) → G K 5 S 0 [(0, vR x0), (1, vI x1)] [] := by
  intro S x0 x1 hd
  unfold n_X3_crawl at hd
  refine g_aload_n C dX3_crawl_0 rfl 0 rfl ?_
  refine g_iload_n C dX3_crawl_1 rfl 1 rfl ?_
  obtain ⟨hg, hd⟩ := gd_some hd
  obtain ⟨v2, S1, hc, hd⟩ := bn_some hd
  refine g_cV_v (n := 1) C (gk_X3).1 q2167 q2169 qs60 q108 q2170 (by decide +kernel) (by decide) (by decide) dX3_crawl_2 (As := [vI x1]) (rest := []) rfl rfl (Nat.le_of_ble_eq_true rfl) hg (m_X3_rootAt E hc) ?_
  refine g_istore_n (L' := [(2, vI v2), (0, vR x0), (1, vI x1)]) C dX3_crawl_5 rfl (by decide) rfl ?_
  refine g_aload_n C dX3_crawl_6 rfl 1 rfl ?_
  refine g_iload_n C dX3_crawl_7 rfl 0 rfl ?_
  refine g_iconst (v := (-1)) C dX3_crawl_8 (by decide) ?_
  refine g_icmp_ne (tgt := 16) C dX3_crawl_9 (by decide) hd (fun hd => ?_) (fun hd => ?_)
  · refine g_iconst (v := 0) C dX3_crawl_16 (by decide) ?_
    refine g_sub [1, 0] rfl ?_
    exact w_X3_crawl_b17 C E Q _ _ _ _ _ hd
  · refine g_iconst (v := 1) C dX3_crawl_12 (by decide) ?_
    refine g_goto (tgt := 17) C dX3_crawl_13 (by decide) ?_
    refine g_sub [1, 0] rfl ?_
    exact w_X3_crawl_b17 C E Q _ _ _ _ _ hd
theorem m_X3_crawl {Γ : GG} {HI : St → Heap → Prop} {l : Launch} (E : EH Γ HI l) {S : St} {a0 : Option Nat} {a1 : Int32} {r : Int32} {S1 : St} (h : n_X3_crawl S a0 a1 = some (r, S1)) : MS Γ HI l yX3_crawl cX3_crawl 5 (some (Jvm.ClassFile.FieldType.int)) 3 S [vR a0, vI a1] (.inl (some (vI r))) S1 := by
  refine MS_of E.ntr E.hx (by decide +kernel) rfl (Nat.le_of_ble_eq_true rfl) fun K e1 e2 e3 e4 hnm C Q => ?_
  subst e1; subst e2; subst e3
  exact w_X3_crawl_b0m C E Q S a0 a1 h

def n_X3_acts_2 (S : St) (x0 : Option Nat) : Option (Int32 × St) :=
  (pI .int S x0 15 0 (0 : Int32)).bind fun S1 =>
  (gI S1 x0 15 30).bind fun v2 =>
  rtI id (Jvm.ClassFile.FieldType.int) v2 S1
theorem w_X3_acts_2_b0m {K : KT} {r : Int32} {S1 : St} (C : GC K RX3 cX3_acts_2 1 2 []) (E : EH (kΓ K) (kHI K) (kl K)) (Q : GQ K (some (Jvm.ClassFile.FieldType.int)) (.inl (some (vI r))) S1) : ∀ (S : St) (x0 : Option Nat), n_X3_acts_2 S x0 = some (r, S1) → G K 1 S 0 [(0, vR x0)] [] := by
  intro S x0 hd
  unfold n_X3_acts_2 at hd
  refine g_aload_n C dX3_acts_2_0 rfl 0 rfl ?_
  refine g_iconst (v := 0) C dX3_acts_2_1 (by decide) ?_
  obtain ⟨S1, hS1, hd⟩ := Option.bind_eq_some_iff.mp hd
  refine g_put C gk_X3 (k := 0) (by decide) q1966 (Or.inl rfl) rfl dX3_acts_2_2 (gfit_ok (pI_v hS1).1).1 (gfit_ok (pI_v hS1).1).2 (pI_v hS1).2 ?_
  refine g_aload_n C dX3_acts_2_5 rfl 0 rfl ?_
  obtain ⟨v2, hv2, hd⟩ := Option.bind_eq_some_iff.mp hd
  refine g_fld C gk_X3 (k := 30) (by decide) q1996 (Or.inl rfl) dX3_acts_2_6 (gI_v hv2) ?_
  exact g_iret C Q hd dX3_acts_2_9
theorem m_X3_acts_2 {Γ : GG} {HI : St → Heap → Prop} {l : Launch} (E : EH Γ HI l) {S : St} {a0 : Option Nat} {r : Int32} {S1 : St} (h : n_X3_acts_2 S a0 = some (r, S1)) : MS Γ HI l yX3_acts_2 cX3_acts_2 1 (some (Jvm.ClassFile.FieldType.int)) 2 S [vR a0] (.inl (some (vI r))) S1 := by
  refine MS_of E.ntr E.hx (by decide +kernel) rfl (Nat.le_of_ble_eq_true rfl) fun K e1 e2 e3 e4 hnm C Q => ?_
  subst e1; subst e2; subst e3
  exact w_X3_acts_2_b0m C E Q S a0 h

def n_X3_firstNoticed_b36 (k9 : St → Option Nat → Int32 → Int32 → Option (Int32 × St)) (S : St) (x0 : Option Nat) (x2 : Int32) (y0 : Int32) : Option (Int32 × St) :=
  k9 S x0 y0 (x2 + (-1))
def n_X3_firstNoticed_b31 (k9 : St → Option Nat → Int32 → Int32 → Option (Int32 × St)) (S : St) (x0 : Option Nat) (x2 : Int32) : Option (Int32 × St) :=
  n_X3_firstNoticed_b36 k9 S x0 x2 x2
def n_X3_firstNoticed_b9 : Nat → St → Option Nat → Int32 → Int32 → Option (Int32 × St)
  | 0 => fun _ _ _ _ => none
  | n + 1 => fun S x0 x1 x2 =>
    if x2 < 0 then
      rtI id (Jvm.ClassFile.FieldType.int) x1 S
    else
      (gR S x0 15 17).bind fun v1 =>
      (aI S v1 1 x2).bind fun v2 =>
      if v2 = 0 then
        (gR S x0 15 14).bind fun v3 =>
        (aI S v3 0 x2).bind fun v4 =>
        if v4 ≤ 0 then
          n_X3_firstNoticed_b36 (n_X3_firstNoticed_b9 n) S x0 x2 x1
        else
          n_X3_firstNoticed_b31 (n_X3_firstNoticed_b9 n) S x0 x2
      else
        n_X3_firstNoticed_b31 (n_X3_firstNoticed_b9 n) S x0 x2
def n_X3_firstNoticed (S : St) (x0 : Option Nat) : Option (Int32 × St) :=
  (gI S x0 15 12).bind fun v1 =>
  n_X3_firstNoticed_b9 FU S x0 (-1 : Int32) (v1 - (1 : Int32))
theorem w_X3_firstNoticed_b36 {K : KT} {r : Int32} {S1 : St} (C : GC K RX3 cX3_firstNoticed 3 2 []) (E : EH (kΓ K) (kHI K) (kl K)) (Q : GQ K (some (Jvm.ClassFile.FieldType.int)) (.inl (some (vI r))) S1) {k9 : St → Option Nat → Int32 → Int32 → Option (Int32 × St)} (h9 : ∀ (S : St) (x0 : Option Nat) (x1 : Int32) (x2 : Int32), k9 S x0 x1 x2 = some (r, S1) → G K 3 S 9 [(0, vR x0), (1, vI x1), (2, vI x2)] []) : ∀ (S : St) (x0 : Option Nat) (x2 : Int32) (y0 : Int32), n_X3_firstNoticed_b36 k9 S x0 x2 y0 = some (r, S1) → G K 3 S 36 [(0, vR x0), (2, vI x2)] [vI y0] := by
  intro S x0 x2 y0 hd
  unfold n_X3_firstNoticed_b36 at hd
  refine g_istore_n (L' := [(1, vI y0), (0, vR x0), (2, vI x2)]) C dX3_firstNoticed_36 rfl (by decide) rfl ?_
  refine g_iinc (v := x2 + (-1)) (L' := [(2, vI (x2 + (-1))), (1, vI y0), (0, vR x0)]) C dX3_firstNoticed_37 2 rfl rfl (by decide) rfl ?_
  refine g_goto (tgt := 9) C dX3_firstNoticed_40 (by decide) ?_
  refine g_sub [2, 1, 0] rfl ?_
  exact h9 _ _ _ _ hd
theorem w_X3_firstNoticed_b31 {K : KT} {r : Int32} {S1 : St} (C : GC K RX3 cX3_firstNoticed 3 2 []) (E : EH (kΓ K) (kHI K) (kl K)) (Q : GQ K (some (Jvm.ClassFile.FieldType.int)) (.inl (some (vI r))) S1) {k9 : St → Option Nat → Int32 → Int32 → Option (Int32 × St)} (h9 : ∀ (S : St) (x0 : Option Nat) (x1 : Int32) (x2 : Int32), k9 S x0 x1 x2 = some (r, S1) → G K 3 S 9 [(0, vR x0), (1, vI x1), (2, vI x2)] []) : ∀ (S : St) (x0 : Option Nat) (x2 : Int32), n_X3_firstNoticed_b31 k9 S x0 x2 = some (r, S1) → G K 3 S 31 [(0, vR x0), (2, vI x2)] [] := by
  intro S x0 x2 hd
  unfold n_X3_firstNoticed_b31 at hd
  refine g_iload_n C dX3_firstNoticed_31 rfl 1 rfl ?_
  refine g_goto (tgt := 36) C dX3_firstNoticed_32 (by decide) ?_
  refine g_sub [0, 1] rfl ?_
  exact w_X3_firstNoticed_b36 C E Q h9 _ _ _ _ hd
theorem w_X3_firstNoticed_b9 {K : KT} {r : Int32} {S1 : St} (C : GC K RX3 cX3_firstNoticed 3 2 []) (E : EH (kΓ K) (kHI K) (kl K)) (Q : GQ K (some (Jvm.ClassFile.FieldType.int)) (.inl (some (vI r))) S1) : ∀ (n : Nat) (S : St) (x0 : Option Nat) (x1 : Int32) (x2 : Int32), n_X3_firstNoticed_b9 n S x0 x1 x2 = some (r, S1) → G K 3 S 9 [(0, vR x0), (1, vI x1), (2, vI x2)] [] := by
  intro n
  induction n with
  | zero => intro S x0 x1 x2 hd; cases hd
  | succ n ih =>
    intro S x0 x1 x2 hd
    unfold n_X3_firstNoticed_b9 at hd
    refine g_iload_n C dX3_firstNoticed_9 rfl 2 rfl ?_
    refine g_if_lt (tgt := 43) C dX3_firstNoticed_10 (by decide) hd (fun hd => ?_) (fun hd => ?_)
    · refine g_iload_n C dX3_firstNoticed_43 rfl 1 rfl ?_
      exact g_iret C Q hd dX3_firstNoticed_44
    · refine g_aload_n C dX3_firstNoticed_13 rfl 0 rfl ?_
      obtain ⟨v1, hv1, hd⟩ := Option.bind_eq_some_iff.mp hd
      refine g_fld C gk_X3 (k := 17) (by decide) q1983 (Or.inl rfl) dX3_firstNoticed_14 (gR_v hv1) ?_
      refine g_iload_n C dX3_firstNoticed_17 rfl 2 rfl ?_
      obtain ⟨v2, hv2, hd⟩ := Option.bind_eq_some_iff.mp hd
      refine g_zaldV C dX3_firstNoticed_18 hv2 ?_
      refine g_if_ne (tgt := 31) C dX3_firstNoticed_19 (by decide) hd (fun hd => ?_) (fun hd => ?_)
      · refine g_sub [0, 2] rfl ?_
        exact w_X3_firstNoticed_b31 C E Q ih _ _ _ hd
      · refine g_aload_n C dX3_firstNoticed_22 rfl 0 rfl ?_
        obtain ⟨v3, hv3, hd⟩ := Option.bind_eq_some_iff.mp hd
        refine g_fld C gk_X3 (k := 14) (by decide) q1980 (Or.inl rfl) dX3_firstNoticed_23 (gR_v hv3) ?_
        refine g_iload_n C dX3_firstNoticed_26 rfl 2 rfl ?_
        obtain ⟨v4, hv4, hd⟩ := Option.bind_eq_some_iff.mp hd
        refine g_ialdV C dX3_firstNoticed_27 hv4 ?_
        refine g_if_le (tgt := 35) C dX3_firstNoticed_28 (by decide) hd (fun hd => ?_) (fun hd => ?_)
        · refine g_iload_n C dX3_firstNoticed_35 rfl 1 rfl ?_
          refine g_sub [0, 2] rfl ?_
          exact w_X3_firstNoticed_b36 C E Q ih _ _ _ _ hd
        · refine g_sub [0, 2] rfl ?_
          exact w_X3_firstNoticed_b31 C E Q ih _ _ _ hd
theorem w_X3_firstNoticed_b0m {K : KT} {r : Int32} {S1 : St} (C : GC K RX3 cX3_firstNoticed 3 2 []) (E : EH (kΓ K) (kHI K) (kl K)) (Q : GQ K (some (Jvm.ClassFile.FieldType.int)) (.inl (some (vI r))) S1) : ∀ (S : St) (x0 : Option Nat), n_X3_firstNoticed S x0 = some (r, S1) → G K 3 S 0 [(0, vR x0)] [] := by
  intro S x0 hd
  unfold n_X3_firstNoticed at hd
  refine g_iconst (v := (-1)) C dX3_firstNoticed_0 (by decide) ?_
  refine g_istore_n (L' := [(1, vI (-1 : Int32)), (0, vR x0)]) C dX3_firstNoticed_1 rfl (by decide) rfl ?_
  refine g_aload_n C dX3_firstNoticed_2 rfl 1 rfl ?_
  obtain ⟨v1, hv1, hd⟩ := Option.bind_eq_some_iff.mp hd
  refine g_fld C gk_X3 (k := 12) (by decide) q1978 (Or.inl rfl) dX3_firstNoticed_3 (gI_v hv1) ?_
  refine g_iconst (v := 1) C dX3_firstNoticed_6 (by decide) ?_
  refine g_isub C dX3_firstNoticed_7 ?_
  refine g_istore_n (L' := [(2, vI (v1 - (1 : Int32))), (1, vI (-1 : Int32)), (0, vR x0)]) C dX3_firstNoticed_8 rfl (by decide) rfl ?_
  refine g_sub [2, 1, 0] rfl ?_
  exact w_X3_firstNoticed_b9 C E Q FU _ _ _ _ hd
theorem m_X3_firstNoticed {Γ : GG} {HI : St → Heap → Prop} {l : Launch} (E : EH Γ HI l) {S : St} {a0 : Option Nat} {r : Int32} {S1 : St} (h : n_X3_firstNoticed S a0 = some (r, S1)) : MS Γ HI l yX3_firstNoticed cX3_firstNoticed 3 (some (Jvm.ClassFile.FieldType.int)) 2 S [vR a0] (.inl (some (vI r))) S1 := by
  refine MS_of E.ntr E.hx (by decide +kernel) rfl (Nat.le_of_ble_eq_true rfl) fun K e1 e2 e3 e4 hnm C Q => ?_
  subst e1; subst e2; subst e3
  exact w_X3_firstNoticed_b0m C E Q S a0 h

def n_X3_firstCrawl_b27 (k9 : St → Option Nat → Int32 → Int32 → Option (Int32 × St)) (S : St) (x0 : Option Nat) (x2 : Int32) (y0 : Int32) : Option (Int32 × St) :=
  k9 S x0 y0 (x2 + (-1))
def n_X3_firstCrawl_b9 : Nat → St → Option Nat → Int32 → Int32 → Option (Int32 × St)
  | 0 => fun _ _ _ _ => none
  | n + 1 => fun S x0 x1 x2 =>
    if x2 < 0 then
      rtI id (Jvm.ClassFile.FieldType.int) x1 S
    else
      (gR S x0 15 18).bind fun v1 =>
      (aI S v1 1 x2).bind fun v2 =>
      if v2 = 0 then
        n_X3_firstCrawl_b27 (n_X3_firstCrawl_b9 n) S x0 x2 x1
      else
        n_X3_firstCrawl_b27 (n_X3_firstCrawl_b9 n) S x0 x2 x2
def n_X3_firstCrawl (S : St) (x0 : Option Nat) : Option (Int32 × St) :=
  (gI S x0 15 12).bind fun v1 =>
  n_X3_firstCrawl_b9 FU S x0 (-1 : Int32) (v1 - (1 : Int32))
theorem w_X3_firstCrawl_b27 {K : KT} {r : Int32} {S1 : St} (C : GC K RX3 cX3_firstCrawl 3 2 []) (E : EH (kΓ K) (kHI K) (kl K)) (Q : GQ K (some (Jvm.ClassFile.FieldType.int)) (.inl (some (vI r))) S1) {k9 : St → Option Nat → Int32 → Int32 → Option (Int32 × St)} (h9 : ∀ (S : St) (x0 : Option Nat) (x1 : Int32) (x2 : Int32), k9 S x0 x1 x2 = some (r, S1) → G K 3 S 9 [(0, vR x0), (1, vI x1), (2, vI x2)] []) : ∀ (S : St) (x0 : Option Nat) (x2 : Int32) (y0 : Int32), n_X3_firstCrawl_b27 k9 S x0 x2 y0 = some (r, S1) → G K 3 S 27 [(0, vR x0), (2, vI x2)] [vI y0] := by
  intro S x0 x2 y0 hd
  unfold n_X3_firstCrawl_b27 at hd
  refine g_istore_n (L' := [(1, vI y0), (0, vR x0), (2, vI x2)]) C dX3_firstCrawl_27 rfl (by decide) rfl ?_
  refine g_iinc (v := x2 + (-1)) (L' := [(2, vI (x2 + (-1))), (1, vI y0), (0, vR x0)]) C dX3_firstCrawl_28 2 rfl rfl (by decide) rfl ?_
  refine g_goto (tgt := 9) C dX3_firstCrawl_31 (by decide) ?_
  refine g_sub [2, 1, 0] rfl ?_
  exact h9 _ _ _ _ hd
theorem w_X3_firstCrawl_b9 {K : KT} {r : Int32} {S1 : St} (C : GC K RX3 cX3_firstCrawl 3 2 []) (E : EH (kΓ K) (kHI K) (kl K)) (Q : GQ K (some (Jvm.ClassFile.FieldType.int)) (.inl (some (vI r))) S1) : ∀ (n : Nat) (S : St) (x0 : Option Nat) (x1 : Int32) (x2 : Int32), n_X3_firstCrawl_b9 n S x0 x1 x2 = some (r, S1) → G K 3 S 9 [(0, vR x0), (1, vI x1), (2, vI x2)] [] := by
  intro n
  induction n with
  | zero => intro S x0 x1 x2 hd; cases hd
  | succ n ih =>
    intro S x0 x1 x2 hd
    unfold n_X3_firstCrawl_b9 at hd
    refine g_iload_n C dX3_firstCrawl_9 rfl 2 rfl ?_
    refine g_if_lt (tgt := 34) C dX3_firstCrawl_10 (by decide) hd (fun hd => ?_) (fun hd => ?_)
    · refine g_iload_n C dX3_firstCrawl_34 rfl 1 rfl ?_
      exact g_iret C Q hd dX3_firstCrawl_35
    · refine g_aload_n C dX3_firstCrawl_13 rfl 0 rfl ?_
      obtain ⟨v1, hv1, hd⟩ := Option.bind_eq_some_iff.mp hd
      refine g_fld C gk_X3 (k := 18) (by decide) q1984 (Or.inl rfl) dX3_firstCrawl_14 (gR_v hv1) ?_
      refine g_iload_n C dX3_firstCrawl_17 rfl 2 rfl ?_
      obtain ⟨v2, hv2, hd⟩ := Option.bind_eq_some_iff.mp hd
      refine g_zaldV C dX3_firstCrawl_18 hv2 ?_
      refine g_if_eq (tgt := 26) C dX3_firstCrawl_19 (by decide) hd (fun hd => ?_) (fun hd => ?_)
      · refine g_iload_n C dX3_firstCrawl_26 rfl 1 rfl ?_
        refine g_sub [0, 2] rfl ?_
        exact w_X3_firstCrawl_b27 C E Q ih _ _ _ _ hd
      · refine g_iload_n C dX3_firstCrawl_22 rfl 2 rfl ?_
        refine g_goto (tgt := 27) C dX3_firstCrawl_23 (by decide) ?_
        refine g_sub [0, 2] rfl ?_
        exact w_X3_firstCrawl_b27 C E Q ih _ _ _ _ hd
theorem w_X3_firstCrawl_b0m {K : KT} {r : Int32} {S1 : St} (C : GC K RX3 cX3_firstCrawl 3 2 []) (E : EH (kΓ K) (kHI K) (kl K)) (Q : GQ K (some (Jvm.ClassFile.FieldType.int)) (.inl (some (vI r))) S1) : ∀ (S : St) (x0 : Option Nat), n_X3_firstCrawl S x0 = some (r, S1) → G K 3 S 0 [(0, vR x0)] [] := by
  intro S x0 hd
  unfold n_X3_firstCrawl at hd
  refine g_iconst (v := (-1)) C dX3_firstCrawl_0 (by decide) ?_
  refine g_istore_n (L' := [(1, vI (-1 : Int32)), (0, vR x0)]) C dX3_firstCrawl_1 rfl (by decide) rfl ?_
  refine g_aload_n C dX3_firstCrawl_2 rfl 1 rfl ?_
  obtain ⟨v1, hv1, hd⟩ := Option.bind_eq_some_iff.mp hd
  refine g_fld C gk_X3 (k := 12) (by decide) q1978 (Or.inl rfl) dX3_firstCrawl_3 (gI_v hv1) ?_
  refine g_iconst (v := 1) C dX3_firstCrawl_6 (by decide) ?_
  refine g_isub C dX3_firstCrawl_7 ?_
  refine g_istore_n (L' := [(2, vI (v1 - (1 : Int32))), (1, vI (-1 : Int32)), (0, vR x0)]) C dX3_firstCrawl_8 rfl (by decide) rfl ?_
  refine g_sub [2, 1, 0] rfl ?_
  exact w_X3_firstCrawl_b9 C E Q FU _ _ _ _ hd
theorem m_X3_firstCrawl {Γ : GG} {HI : St → Heap → Prop} {l : Launch} (E : EH Γ HI l) {S : St} {a0 : Option Nat} {r : Int32} {S1 : St} (h : n_X3_firstCrawl S a0 = some (r, S1)) : MS Γ HI l yX3_firstCrawl cX3_firstCrawl 3 (some (Jvm.ClassFile.FieldType.int)) 2 S [vR a0] (.inl (some (vI r))) S1 := by
  refine MS_of E.ntr E.hx (by decide +kernel) rfl (Nat.le_of_ble_eq_true rfl) fun K e1 e2 e3 e4 hnm C Q => ?_
  subst e1; subst e2; subst e3
  exact w_X3_firstCrawl_b0m C E Q S a0 h

def n_X3_isQuiet (S : St) (x0 : Option Nat) : Option (Int32 × St) :=
  (pI .int S x0 15 0 (0 : Int32)).bind fun S1 =>
  (gI S1 x0 15 30).bind fun v2 =>
  if v2 = 0 then
    gd (grc S1 x0 15) <|
    bn (n_X3_firstNoticed S1 x0) fun v4 S3 =>
    if v4 = (-1 : Int32) then
      gd (grc S3 x0 15) <|
      bn (n_X3_firstCrawl S3 x0) fun v6 S5 =>
      if v6 = (-1 : Int32) then
        rtI id (Jvm.ClassFile.FieldType.boolean) (1 : Int32) S5
      else
        rtI id (Jvm.ClassFile.FieldType.boolean) (0 : Int32) S5
    else
      rtI id (Jvm.ClassFile.FieldType.boolean) (0 : Int32) S3
  else
    rtI id (Jvm.ClassFile.FieldType.boolean) (0 : Int32) S1
theorem w_X3_isQuiet_b0m {K : KT} {r : Int32} {S1 : St} (C : GC K RX3 cX3_isQuiet 1 3 []) (E : EH (kΓ K) (kHI K) (kl K)) (Q : GQ K (some (Jvm.ClassFile.FieldType.boolean)) (.inl (some (vI r))) S1) : ∀ (S : St) (x0 : Option Nat), n_X3_isQuiet S x0 = some (r, S1) → G K 1 S 0 [(0, vR x0)] [] := by
  intro S x0 hd
  unfold n_X3_isQuiet at hd
  refine g_aload_n C dX3_isQuiet_0 rfl 0 rfl ?_
  refine g_iconst (v := 0) C dX3_isQuiet_1 (by decide) ?_
  obtain ⟨S1, hS1, hd⟩ := Option.bind_eq_some_iff.mp hd
  refine g_put C gk_X3 (k := 0) (by decide) q1966 (Or.inl rfl) rfl dX3_isQuiet_2 (gfit_ok (pI_v hS1).1).1 (gfit_ok (pI_v hS1).1).2 (pI_v hS1).2 ?_
  refine g_aload_n C dX3_isQuiet_5 rfl 0 rfl ?_
  obtain ⟨v2, hv2, hd⟩ := Option.bind_eq_some_iff.mp hd
  refine g_fld C gk_X3 (k := 30) (by decide) q1996 (Or.inl rfl) dX3_isQuiet_6 (gI_v hv2) ?_
  refine g_if_ne (tgt := 32) C dX3_isQuiet_9 (by decide) hd (fun hd => ?_) (fun hd => ?_)
  · refine g_iconst (v := 0) C dX3_isQuiet_32 (by decide) ?_
    exact g_iret C Q hd dX3_isQuiet_33
  · refine g_aload_n C dX3_isQuiet_12 rfl 0 rfl ?_
    obtain ⟨hg, hd⟩ := gd_some hd
    obtain ⟨v4, S3, hc, hd⟩ := bn_some hd
    refine g_cV_v (n := 0) C (gk_X3).1 q2248 q2250 qs67 q108 q2251 (by decide +kernel) (by decide) (by decide) dX3_isQuiet_13 (As := []) (rest := []) rfl rfl (Nat.le_of_ble_eq_true rfl) hg (m_X3_firstNoticed E hc) ?_
    refine g_iconst (v := (-1)) C dX3_isQuiet_16 (by decide) ?_
    refine g_icmp_ne (tgt := 32) C dX3_isQuiet_17 (by decide) hd (fun hd => ?_) (fun hd => ?_)
    · refine g_iconst (v := 0) C dX3_isQuiet_32 (by decide) ?_
      exact g_iret C Q hd dX3_isQuiet_33
    · refine g_aload_n C dX3_isQuiet_20 rfl 0 rfl ?_
      obtain ⟨hg, hd⟩ := gd_some hd
      obtain ⟨v6, S5, hc, hd⟩ := bn_some hd
      refine g_cV_v (n := 0) C (gk_X3).1 q2256 q2258 qs69 q108 q2259 (by decide +kernel) (by decide) (by decide) dX3_isQuiet_21 (As := []) (rest := []) rfl rfl (Nat.le_of_ble_eq_true rfl) hg (m_X3_firstCrawl E hc) ?_
      refine g_iconst (v := (-1)) C dX3_isQuiet_24 (by decide) ?_
      refine g_icmp_ne (tgt := 32) C dX3_isQuiet_25 (by decide) hd (fun hd => ?_) (fun hd => ?_)
      · refine g_iconst (v := 0) C dX3_isQuiet_32 (by decide) ?_
        exact g_iret C Q hd dX3_isQuiet_33
      · refine g_iconst (v := 1) C dX3_isQuiet_28 (by decide) ?_
        refine g_goto (tgt := 33) C dX3_isQuiet_29 (by decide) ?_
        exact g_iret C Q hd dX3_isQuiet_33
theorem m_X3_isQuiet {Γ : GG} {HI : St → Heap → Prop} {l : Launch} (E : EH Γ HI l) {S : St} {a0 : Option Nat} {r : Int32} {S1 : St} (h : n_X3_isQuiet S a0 = some (r, S1)) : MS Γ HI l yX3_isQuiet cX3_isQuiet 1 (some (Jvm.ClassFile.FieldType.boolean)) 3 S [vR a0] (.inl (some (vI r))) S1 := by
  refine MS_of E.ntr E.hx (by decide +kernel) rfl (Nat.le_of_ble_eq_true rfl) fun K e1 e2 e3 e4 hnm C Q => ?_
  subst e1; subst e2; subst e3
  exact w_X3_isQuiet_b0m C E Q S a0 h

def n_X3_entries_b32 (k9 : St → Option Nat → Int32 → Int32 → Option (Int32 × St)) (S : St) (x0 : Option Nat) (x2 : Int32) (y0 : Int32) (y1 : Int32) : Option (Int32 × St) :=
  k9 S x0 (y1 + y0) (x2 + 1)
def n_X3_entries_b9 : Nat → St → Option Nat → Int32 → Int32 → Option (Int32 × St)
  | 0 => fun _ _ _ _ => none
  | n + 1 => fun S x0 x1 x2 =>
    (gI S x0 15 2).bind fun v1 =>
    if v1 ≤ x2 then
      rtI id (Jvm.ClassFile.FieldType.int) x1 S
    else
      (gR S x0 15 22).bind fun v2 =>
      (aI S v2 1 x2).bind fun v3 =>
      if v3 = 0 then
        n_X3_entries_b32 (n_X3_entries_b9 n) S x0 x2 (0 : Int32) x1
      else
        n_X3_entries_b32 (n_X3_entries_b9 n) S x0 x2 (1 : Int32) x1
def n_X3_entries (S : St) (x0 : Option Nat) : Option (Int32 × St) :=
  (pI .int S x0 15 0 (0 : Int32)).bind fun S1 =>
  n_X3_entries_b9 FU S1 x0 (0 : Int32) (0 : Int32)
theorem w_X3_entries_b32 {K : KT} {r : Int32} {S1 : St} (C : GC K RX3 cX3_entries 3 2 []) (E : EH (kΓ K) (kHI K) (kl K)) (Q : GQ K (some (Jvm.ClassFile.FieldType.int)) (.inl (some (vI r))) S1) {k9 : St → Option Nat → Int32 → Int32 → Option (Int32 × St)} (h9 : ∀ (S : St) (x0 : Option Nat) (x1 : Int32) (x2 : Int32), k9 S x0 x1 x2 = some (r, S1) → G K 3 S 9 [(0, vR x0), (1, vI x1), (2, vI x2)] []) : ∀ (S : St) (x0 : Option Nat) (x2 : Int32) (y0 : Int32) (y1 : Int32), n_X3_entries_b32 k9 S x0 x2 y0 y1 = some (r, S1) → G K 3 S 32 [(0, vR x0), (2, vI x2)] [vI y0, vI y1] := by
  intro S x0 x2 y0 y1 hd
  unfold n_X3_entries_b32 at hd
  refine g_iadd C dX3_entries_32 ?_
  refine g_istore_n (L' := [(1, vI (y1 + y0)), (0, vR x0), (2, vI x2)]) C dX3_entries_33 rfl (by decide) rfl ?_
  refine g_iinc (v := x2 + 1) (L' := [(2, vI (x2 + 1)), (1, vI (y1 + y0)), (0, vR x0)]) C dX3_entries_34 2 rfl rfl (by decide) rfl ?_
  refine g_goto (tgt := 9) C dX3_entries_37 (by decide) ?_
  refine g_sub [2, 1, 0] rfl ?_
  exact h9 _ _ _ _ hd
theorem w_X3_entries_b9 {K : KT} {r : Int32} {S1 : St} (C : GC K RX3 cX3_entries 3 2 []) (E : EH (kΓ K) (kHI K) (kl K)) (Q : GQ K (some (Jvm.ClassFile.FieldType.int)) (.inl (some (vI r))) S1) : ∀ (n : Nat) (S : St) (x0 : Option Nat) (x1 : Int32) (x2 : Int32), n_X3_entries_b9 n S x0 x1 x2 = some (r, S1) → G K 3 S 9 [(0, vR x0), (1, vI x1), (2, vI x2)] [] := by
  intro n
  induction n with
  | zero => intro S x0 x1 x2 hd; cases hd
  | succ n ih =>
    intro S x0 x1 x2 hd
    unfold n_X3_entries_b9 at hd
    refine g_iload_n C dX3_entries_9 rfl 2 rfl ?_
    refine g_aload_n C dX3_entries_10 rfl 0 rfl ?_
    obtain ⟨v1, hv1, hd⟩ := Option.bind_eq_some_iff.mp hd
    refine g_fld C gk_X3 (k := 2) (by decide) q1968 (Or.inl rfl) dX3_entries_11 (gI_v hv1) ?_
    refine g_icmp_ge (tgt := 40) C dX3_entries_14 (by decide) hd (fun hd => ?_) (fun hd => ?_)
    · refine g_iload_n C dX3_entries_40 rfl 1 rfl ?_
      exact g_iret C Q hd dX3_entries_41
    · refine g_iload_n C dX3_entries_17 rfl 1 rfl ?_
      refine g_aload_n C dX3_entries_18 rfl 0 rfl ?_
      obtain ⟨v2, hv2, hd⟩ := Option.bind_eq_some_iff.mp hd
      refine g_fld C gk_X3 (k := 22) (by decide) q1988 (Or.inl rfl) dX3_entries_19 (gR_v hv2) ?_
      refine g_iload_n C dX3_entries_22 rfl 2 rfl ?_
      obtain ⟨v3, hv3, hd⟩ := Option.bind_eq_some_iff.mp hd
      refine g_zaldV C dX3_entries_23 hv3 ?_
      refine g_if_eq (tgt := 31) C dX3_entries_24 (by decide) hd (fun hd => ?_) (fun hd => ?_)
      · refine g_iconst (v := 0) C dX3_entries_31 (by decide) ?_
        refine g_sub [0, 2] rfl ?_
        exact w_X3_entries_b32 C E Q ih _ _ _ _ _ hd
      · refine g_iconst (v := 1) C dX3_entries_27 (by decide) ?_
        refine g_goto (tgt := 32) C dX3_entries_28 (by decide) ?_
        refine g_sub [0, 2] rfl ?_
        exact w_X3_entries_b32 C E Q ih _ _ _ _ _ hd
theorem w_X3_entries_b0m {K : KT} {r : Int32} {S1 : St} (C : GC K RX3 cX3_entries 3 2 []) (E : EH (kΓ K) (kHI K) (kl K)) (Q : GQ K (some (Jvm.ClassFile.FieldType.int)) (.inl (some (vI r))) S1) : ∀ (S : St) (x0 : Option Nat), n_X3_entries S x0 = some (r, S1) → G K 3 S 0 [(0, vR x0)] [] := by
  intro S x0 hd
  unfold n_X3_entries at hd
  refine g_aload_n C dX3_entries_0 rfl 0 rfl ?_
  refine g_iconst (v := 0) C dX3_entries_1 (by decide) ?_
  obtain ⟨S1, hS1, hd⟩ := Option.bind_eq_some_iff.mp hd
  refine g_put C gk_X3 (k := 0) (by decide) q1966 (Or.inl rfl) rfl dX3_entries_2 (gfit_ok (pI_v hS1).1).1 (gfit_ok (pI_v hS1).1).2 (pI_v hS1).2 ?_
  refine g_iconst (v := 0) C dX3_entries_5 (by decide) ?_
  refine g_istore_n (L' := [(1, vI (0 : Int32)), (0, vR x0)]) C dX3_entries_6 rfl (by decide) rfl ?_
  refine g_iconst (v := 0) C dX3_entries_7 (by decide) ?_
  refine g_istore_n (L' := [(2, vI (0 : Int32)), (1, vI (0 : Int32)), (0, vR x0)]) C dX3_entries_8 rfl (by decide) rfl ?_
  refine g_sub [2, 1, 0] rfl ?_
  exact w_X3_entries_b9 C E Q FU _ _ _ _ hd
theorem m_X3_entries {Γ : GG} {HI : St → Heap → Prop} {l : Launch} (E : EH Γ HI l) {S : St} {a0 : Option Nat} {r : Int32} {S1 : St} (h : n_X3_entries S a0 = some (r, S1)) : MS Γ HI l yX3_entries cX3_entries 3 (some (Jvm.ClassFile.FieldType.int)) 2 S [vR a0] (.inl (some (vI r))) S1 := by
  refine MS_of E.ntr E.hx (by decide +kernel) rfl (Nat.le_of_ble_eq_true rfl) fun K e1 e2 e3 e4 hnm C Q => ?_
  subst e1; subst e2; subst e3
  exact w_X3_entries_b0m C E Q S a0 h

def n_X3_edition_b20 (S : St) (x0 : Option Nat) (x1 : Int32) (y0 : Int32) (y1 : Option Nat) : Option (Int32 × St) :=
  (pI .int S y1 15 0 y0).bind fun S1 =>
  (gI S1 x0 15 0).bind fun v2 =>
  if v2 ≤ 0 then
    (gR S1 x0 15 22).bind fun v3 =>
    (aI S1 v3 1 x1).bind fun v4 =>
    if v4 = 0 then
      rtI id (Jvm.ClassFile.FieldType.int) (-1 : Int32) S1
    else
      (gR S1 x0 15 25).bind fun v5 =>
      (aI S1 v5 0 x1).bind fun v6 =>
      rtI id (Jvm.ClassFile.FieldType.int) v6 S1
  else
    rtI id (Jvm.ClassFile.FieldType.int) (0 : Int32) S1
def n_X3_edition (S : St) (x0 : Option Nat) (x1 : Int32) : Option (Int32 × St) :=
  (gI S x0 15 2).bind fun v1 =>
  bn (n_X3_in S x1 (0 : Int32) (v1 - (1 : Int32))) fun v3 S2 =>
  if v3 = 0 then
    n_X3_edition_b20 S2 x0 x1 (1 : Int32) x0
  else
    n_X3_edition_b20 S2 x0 x1 (0 : Int32) x0
theorem w_X3_edition_b20 {K : KT} {r : Int32} {S1 : St} (C : GC K RX3 cX3_edition 2 3 []) (E : EH (kΓ K) (kHI K) (kl K)) (Q : GQ K (some (Jvm.ClassFile.FieldType.int)) (.inl (some (vI r))) S1) : ∀ (S : St) (x0 : Option Nat) (x1 : Int32) (y0 : Int32) (y1 : Option Nat), n_X3_edition_b20 S x0 x1 y0 y1 = some (r, S1) → G K 2 S 20 [(0, vR x0), (1, vI x1)] [vI y0, vR y1] := by
  intro S x0 x1 y0 y1 hd
  unfold n_X3_edition_b20 at hd
  obtain ⟨S1, hS1, hd⟩ := Option.bind_eq_some_iff.mp hd
  refine g_put C gk_X3 (k := 0) (by decide) q1966 (Or.inl rfl) rfl dX3_edition_20 (gfit_ok (pI_v hS1).1).1 (gfit_ok (pI_v hS1).1).2 (pI_v hS1).2 ?_
  refine g_aload_n C dX3_edition_23 rfl 0 rfl ?_
  obtain ⟨v2, hv2, hd⟩ := Option.bind_eq_some_iff.mp hd
  refine g_fld C gk_X3 (k := 0) (by decide) q1966 (Or.inl rfl) dX3_edition_24 (gI_v hv2) ?_
  refine g_if_le (tgt := 34) C dX3_edition_27 (by decide) hd (fun hd => ?_) (fun hd => ?_)
  · refine g_aload_n C dX3_edition_34 rfl 0 rfl ?_
    obtain ⟨v3, hv3, hd⟩ := Option.bind_eq_some_iff.mp hd
    refine g_fld C gk_X3 (k := 22) (by decide) q1988 (Or.inl rfl) dX3_edition_35 (gR_v hv3) ?_
    refine g_iload_n C dX3_edition_38 rfl 1 rfl ?_
    obtain ⟨v4, hv4, hd⟩ := Option.bind_eq_some_iff.mp hd
    refine g_zaldV C dX3_edition_39 hv4 ?_
    refine g_if_eq (tgt := 52) C dX3_edition_40 (by decide) hd (fun hd => ?_) (fun hd => ?_)
    · refine g_iconst (v := (-1)) C dX3_edition_52 (by decide) ?_
      exact g_iret C Q hd dX3_edition_53
    · refine g_aload_n C dX3_edition_43 rfl 0 rfl ?_
      obtain ⟨v5, hv5, hd⟩ := Option.bind_eq_some_iff.mp hd
      refine g_fld C gk_X3 (k := 25) (by decide) q1991 (Or.inl rfl) dX3_edition_44 (gR_v hv5) ?_
      refine g_iload_n C dX3_edition_47 rfl 1 rfl ?_
      obtain ⟨v6, hv6, hd⟩ := Option.bind_eq_some_iff.mp hd
      refine g_ialdV C dX3_edition_48 hv6 ?_
      refine g_goto (tgt := 53) C dX3_edition_49 (by decide) ?_
      exact g_iret C Q hd dX3_edition_53
  · refine g_iconst (v := 0) C dX3_edition_30 (by decide) ?_
    refine g_goto (tgt := 53) C dX3_edition_31 (by decide) ?_
    exact g_iret C Q hd dX3_edition_53
theorem w_X3_edition_b0m {K : KT} {r : Int32} {S1 : St} (C : GC K RX3 cX3_edition 2 3 []) (E : EH (kΓ K) (kHI K) (kl K)) (Q : GQ K (some (Jvm.ClassFile.FieldType.int)) (.inl (some (vI r))) S1) : ∀ (S : St) (x0 : Option Nat) (x1 : Int32), n_X3_edition S x0 x1 = some (r, S1) → G K 2 S 0 [(0, vR x0), (1, vI x1)] [] := by
  intro S x0 x1 hd
  unfold n_X3_edition at hd
  refine g_aload_n C dX3_edition_0 rfl 0 rfl ?_
  refine g_iload_n C dX3_edition_1 rfl 1 rfl ?_
  refine g_iconst (v := 0) C dX3_edition_2 (by decide) ?_
  refine g_aload_n C dX3_edition_3 rfl 0 rfl ?_
  obtain ⟨v1, hv1, hd⟩ := Option.bind_eq_some_iff.mp hd
  refine g_fld C gk_X3 (k := 2) (by decide) q1968 (Or.inl rfl) dX3_edition_4 (gI_v hv1) ?_
  refine g_iconst (v := 1) C dX3_edition_7 (by decide) ?_
  refine g_isub C dX3_edition_8 ?_
  obtain ⟨v3, S2, hc, hd⟩ := bn_some hd
  refine g_cS_v (n := 3) C q2124 q2125 q108 q2126 (by decide +kernel) (by decide) (by decide) dX3_edition_9 (As := [vI x1, vI (0 : Int32), vI (v1 - (1 : Int32))]) (rest := [vR x0]) rfl rfl (Nat.le_of_ble_eq_true rfl) (m_X3_in E hc) ?_
  refine g_if_eq (tgt := 19) C dX3_edition_12 (by decide) hd (fun hd => ?_) (fun hd => ?_)
  · refine g_iconst (v := 1) C dX3_edition_19 (by decide) ?_
    refine g_sub [0, 1] rfl ?_
    exact w_X3_edition_b20 C E Q _ _ _ _ _ hd
  · refine g_iconst (v := 0) C dX3_edition_15 (by decide) ?_
    refine g_goto (tgt := 20) C dX3_edition_16 (by decide) ?_
    refine g_sub [0, 1] rfl ?_
    exact w_X3_edition_b20 C E Q _ _ _ _ _ hd
theorem m_X3_edition {Γ : GG} {HI : St → Heap → Prop} {l : Launch} (E : EH Γ HI l) {S : St} {a0 : Option Nat} {a1 : Int32} {r : Int32} {S1 : St} (h : n_X3_edition S a0 a1 = some (r, S1)) : MS Γ HI l yX3_edition cX3_edition 2 (some (Jvm.ClassFile.FieldType.int)) 3 S [vR a0, vI a1] (.inl (some (vI r))) S1 := by
  refine MS_of E.ntr E.hx (by decide +kernel) rfl (Nat.le_of_ble_eq_true rfl) fun K e1 e2 e3 e4 hnm C Q => ?_
  subst e1; subst e2; subst e3
  exact w_X3_edition_b0m C E Q S a0 a1 h

def n_X3_isKnown_b63 (S : St) : Option (Int32 × St) :=
  rtI id (Jvm.ClassFile.FieldType.boolean) (1 : Int32) S
def n_X3_isKnown (S : St) (x0 : Option Nat) (x1 : Int32) : Option (Int32 × St) :=
  (gR S x0 15 22).bind fun v1 =>
  (aI S v1 1 x1).bind fun v2 =>
  if v2 = 0 then
    rtI id (Jvm.ClassFile.FieldType.boolean) (0 : Int32) S
  else
    (gR S x0 15 23).bind fun v3 =>
    (aI S v3 0 x1).bind fun v4 =>
    (gR S x0 15 5).bind fun v5 =>
    (aI S v5 0 x1).bind fun v6 =>
    if v4 = v6 then
      (gR S x0 15 24).bind fun v7 =>
      (aI S v7 2 x1).bind fun v8 =>
      (gR S x0 15 6).bind fun v9 =>
      (aI S v9 2 x1).bind fun v10 =>
      if v8 = v10 then
        (gR S x0 15 4).bind fun v11 =>
        (aI S v11 1 x1).bind fun v12 =>
        if v12 = 0 then
          (gR S x0 15 25).bind fun v13 =>
          (aI S v13 0 x1).bind fun v14 =>
          (gR S x0 15 7).bind fun v15 =>
          (aI S v15 0 x1).bind fun v16 =>
          if v14 = v16 then
            n_X3_isKnown_b63 S
          else
            rtI id (Jvm.ClassFile.FieldType.boolean) (0 : Int32) S
        else
          n_X3_isKnown_b63 S
      else
        rtI id (Jvm.ClassFile.FieldType.boolean) (0 : Int32) S
    else
      rtI id (Jvm.ClassFile.FieldType.boolean) (0 : Int32) S
theorem w_X3_isKnown_b63 {K : KT} {r : Int32} {S1 : St} (C : GC K RX3 cX3_isKnown 2 2 []) (E : EH (kΓ K) (kHI K) (kl K)) (Q : GQ K (some (Jvm.ClassFile.FieldType.boolean)) (.inl (some (vI r))) S1) : ∀ (S : St), n_X3_isKnown_b63 S = some (r, S1) → G K 2 S 63 [] [] := by
  intro S hd
  unfold n_X3_isKnown_b63 at hd
  refine g_iconst (v := 1) C dX3_isKnown_63 (by decide) ?_
  refine g_goto (tgt := 68) C dX3_isKnown_64 (by decide) ?_
  exact g_iret C Q hd dX3_isKnown_68
theorem w_X3_isKnown_b0m {K : KT} {r : Int32} {S1 : St} (C : GC K RX3 cX3_isKnown 2 2 []) (E : EH (kΓ K) (kHI K) (kl K)) (Q : GQ K (some (Jvm.ClassFile.FieldType.boolean)) (.inl (some (vI r))) S1) : ∀ (S : St) (x0 : Option Nat) (x1 : Int32), n_X3_isKnown S x0 x1 = some (r, S1) → G K 2 S 0 [(0, vR x0), (1, vI x1)] [] := by
  intro S x0 x1 hd
  unfold n_X3_isKnown at hd
  refine g_aload_n C dX3_isKnown_0 rfl 0 rfl ?_
  obtain ⟨v1, hv1, hd⟩ := Option.bind_eq_some_iff.mp hd
  refine g_fld C gk_X3 (k := 22) (by decide) q1988 (Or.inl rfl) dX3_isKnown_1 (gR_v hv1) ?_
  refine g_iload_n C dX3_isKnown_4 rfl 1 rfl ?_
  obtain ⟨v2, hv2, hd⟩ := Option.bind_eq_some_iff.mp hd
  refine g_zaldV C dX3_isKnown_5 hv2 ?_
  refine g_if_eq (tgt := 67) C dX3_isKnown_6 (by decide) hd (fun hd => ?_) (fun hd => ?_)
  · refine g_iconst (v := 0) C dX3_isKnown_67 (by decide) ?_
    exact g_iret C Q hd dX3_isKnown_68
  · refine g_aload_n C dX3_isKnown_9 rfl 0 rfl ?_
    obtain ⟨v3, hv3, hd⟩ := Option.bind_eq_some_iff.mp hd
    refine g_fld C gk_X3 (k := 23) (by decide) q1989 (Or.inl rfl) dX3_isKnown_10 (gR_v hv3) ?_
    refine g_iload_n C dX3_isKnown_13 rfl 1 rfl ?_
    obtain ⟨v4, hv4, hd⟩ := Option.bind_eq_some_iff.mp hd
    refine g_ialdV C dX3_isKnown_14 hv4 ?_
    refine g_aload_n C dX3_isKnown_15 rfl 0 rfl ?_
    obtain ⟨v5, hv5, hd⟩ := Option.bind_eq_some_iff.mp hd
    refine g_fld C gk_X3 (k := 5) (by decide) q1971 (Or.inl rfl) dX3_isKnown_16 (gR_v hv5) ?_
    refine g_iload_n C dX3_isKnown_19 rfl 1 rfl ?_
    obtain ⟨v6, hv6, hd⟩ := Option.bind_eq_some_iff.mp hd
    refine g_ialdV C dX3_isKnown_20 hv6 ?_
    refine g_icmp_ne (tgt := 67) C dX3_isKnown_21 (by decide) hd (fun hd => ?_) (fun hd => ?_)
    · refine g_iconst (v := 0) C dX3_isKnown_67 (by decide) ?_
      exact g_iret C Q hd dX3_isKnown_68
    · refine g_aload_n C dX3_isKnown_24 rfl 0 rfl ?_
      obtain ⟨v7, hv7, hd⟩ := Option.bind_eq_some_iff.mp hd
      refine g_fld C gk_X3 (k := 24) (by decide) q1990 (Or.inl rfl) dX3_isKnown_25 (gR_v hv7) ?_
      refine g_iload_n C dX3_isKnown_28 rfl 1 rfl ?_
      obtain ⟨v8, hv8, hd⟩ := Option.bind_eq_some_iff.mp hd
      refine g_caldV C dX3_isKnown_29 hv8 ?_
      refine g_aload_n C dX3_isKnown_30 rfl 0 rfl ?_
      obtain ⟨v9, hv9, hd⟩ := Option.bind_eq_some_iff.mp hd
      refine g_fld C gk_X3 (k := 6) (by decide) q1972 (Or.inl rfl) dX3_isKnown_31 (gR_v hv9) ?_
      refine g_iload_n C dX3_isKnown_34 rfl 1 rfl ?_
      obtain ⟨v10, hv10, hd⟩ := Option.bind_eq_some_iff.mp hd
      refine g_caldV C dX3_isKnown_35 hv10 ?_
      refine g_icmp_ne (tgt := 67) C dX3_isKnown_36 (by decide) hd (fun hd => ?_) (fun hd => ?_)
      · refine g_iconst (v := 0) C dX3_isKnown_67 (by decide) ?_
        exact g_iret C Q hd dX3_isKnown_68
      · refine g_aload_n C dX3_isKnown_39 rfl 0 rfl ?_
        obtain ⟨v11, hv11, hd⟩ := Option.bind_eq_some_iff.mp hd
        refine g_fld C gk_X3 (k := 4) (by decide) q1970 (Or.inl rfl) dX3_isKnown_40 (gR_v hv11) ?_
        refine g_iload_n C dX3_isKnown_43 rfl 1 rfl ?_
        obtain ⟨v12, hv12, hd⟩ := Option.bind_eq_some_iff.mp hd
        refine g_zaldV C dX3_isKnown_44 hv12 ?_
        refine g_if_ne (tgt := 63) C dX3_isKnown_45 (by decide) hd (fun hd => ?_) (fun hd => ?_)
        · refine g_sub [] rfl ?_
          exact w_X3_isKnown_b63 C E Q _ hd
        · refine g_aload_n C dX3_isKnown_48 rfl 0 rfl ?_
          obtain ⟨v13, hv13, hd⟩ := Option.bind_eq_some_iff.mp hd
          refine g_fld C gk_X3 (k := 25) (by decide) q1991 (Or.inl rfl) dX3_isKnown_49 (gR_v hv13) ?_
          refine g_iload_n C dX3_isKnown_52 rfl 1 rfl ?_
          obtain ⟨v14, hv14, hd⟩ := Option.bind_eq_some_iff.mp hd
          refine g_ialdV C dX3_isKnown_53 hv14 ?_
          refine g_aload_n C dX3_isKnown_54 rfl 0 rfl ?_
          obtain ⟨v15, hv15, hd⟩ := Option.bind_eq_some_iff.mp hd
          refine g_fld C gk_X3 (k := 7) (by decide) q1973 (Or.inl rfl) dX3_isKnown_55 (gR_v hv15) ?_
          refine g_iload_n C dX3_isKnown_58 rfl 1 rfl ?_
          obtain ⟨v16, hv16, hd⟩ := Option.bind_eq_some_iff.mp hd
          refine g_ialdV C dX3_isKnown_59 hv16 ?_
          refine g_icmp_ne (tgt := 67) C dX3_isKnown_60 (by decide) hd (fun hd => ?_) (fun hd => ?_)
          · refine g_iconst (v := 0) C dX3_isKnown_67 (by decide) ?_
            exact g_iret C Q hd dX3_isKnown_68
          · refine g_sub [] rfl ?_
            exact w_X3_isKnown_b63 C E Q _ hd
theorem m_X3_isKnown {Γ : GG} {HI : St → Heap → Prop} {l : Launch} (E : EH Γ HI l) {S : St} {a0 : Option Nat} {a1 : Int32} {r : Int32} {S1 : St} (h : n_X3_isKnown S a0 a1 = some (r, S1)) : MS Γ HI l yX3_isKnown cX3_isKnown 2 (some (Jvm.ClassFile.FieldType.boolean)) 2 S [vR a0, vI a1] (.inl (some (vI r))) S1 := by
  refine MS_of E.ntr E.hx (by decide +kernel) rfl (Nat.le_of_ble_eq_true rfl) fun K e1 e2 e3 e4 hnm C Q => ?_
  subst e1; subst e2; subst e3
  exact w_X3_isKnown_b0m C E Q S a0 a1 h

def n_X3_stale_b80 (k9 : St → Option Nat → Int32 → Int32 → Option (Int32 × St)) (S : St) (x0 : Option Nat) (x2 : Int32) (y0 : Int32) (y1 : Int32) : Option (Int32 × St) :=
  k9 S x0 (y1 + y0) (x2 + 1)
def n_X3_stale_b79 (k9 : St → Option Nat → Int32 → Int32 → Option (Int32 × St)) (S : St) (x0 : Option Nat) (x2 : Int32) (y0 : Int32) : Option (Int32 × St) :=
  n_X3_stale_b80 k9 S x0 x2 (0 : Int32) y0
def n_X3_stale_b59 (k9 : St → Option Nat → Int32 → Int32 → Option (Int32 × St)) (S : St) (x0 : Option Nat) (x2 : Int32) (x3 : Int32) (y0 : Int32) (y1 : Int32) : Option (Int32 × St) :=
  (gR S x0 15 22).bind fun v1 =>
  (aI S v1 1 x2).bind fun v2 =>
  if v2 = 0 then
    n_X3_stale_b79 k9 S x0 x2 (y1 + y0)
  else
    if x3 = 0 then
      n_X3_stale_b80 k9 S x0 x2 (1 : Int32) (y1 + y0)
    else
      n_X3_stale_b79 k9 S x0 x2 (y1 + y0)
def n_X3_stale_b58 (k9 : St → Option Nat → Int32 → Int32 → Option (Int32 × St)) (S : St) (x0 : Option Nat) (x2 : Int32) (x3 : Int32) (y0 : Int32) : Option (Int32 × St) :=
  n_X3_stale_b59 k9 S x0 x2 x3 (0 : Int32) y0
def n_X3_stale_b31 (k9 : St → Option Nat → Int32 → Int32 → Option (Int32 × St)) (S : St) (x0 : Option Nat) (x1 : Int32) (x2 : Int32) (y0 : Int32) : Option (Int32 × St) :=
  if y0 = 0 then
    n_X3_stale_b58 k9 S x0 x2 y0 x1
  else
    (gR S x0 15 4).bind fun v1 =>
    (aI S v1 1 x2).bind fun v2 =>
    if v2 = 0 then
      gd (grc S x0 15) <|
      bn (n_X3_isKnown S x0 x2) fun v4 S3 =>
      if v4 = 0 then
        n_X3_stale_b59 k9 S3 x0 x2 y0 (1 : Int32) x1
      else
        n_X3_stale_b58 k9 S3 x0 x2 y0 x1
    else
      n_X3_stale_b58 k9 S x0 x2 y0 x1
def n_X3_stale_b9 : Nat → St → Option Nat → Int32 → Int32 → Option (Int32 × St)
  | 0 => fun _ _ _ _ => none
  | n + 1 => fun S x0 x1 x2 =>
    (gI S x0 15 2).bind fun v1 =>
    if v1 ≤ x2 then
      rtI id (Jvm.ClassFile.FieldType.int) x1 S
    else
      gd (grc S x0 15) <|
      bn (n_X3_over S x0 x2) fun v3 S2 =>
      if v3 = (-1 : Int32) then
        n_X3_stale_b31 (n_X3_stale_b9 n) S2 x0 x1 x2 (0 : Int32)
      else
        n_X3_stale_b31 (n_X3_stale_b9 n) S2 x0 x1 x2 (1 : Int32)
def n_X3_stale (S : St) (x0 : Option Nat) : Option (Int32 × St) :=
  (pI .int S x0 15 0 (0 : Int32)).bind fun S1 =>
  n_X3_stale_b9 FU S1 x0 (0 : Int32) (0 : Int32)
theorem w_X3_stale_b80 {K : KT} {r : Int32} {S1 : St} (C : GC K RX3 cX3_stale 4 4 []) (E : EH (kΓ K) (kHI K) (kl K)) (Q : GQ K (some (Jvm.ClassFile.FieldType.int)) (.inl (some (vI r))) S1) {k9 : St → Option Nat → Int32 → Int32 → Option (Int32 × St)} (h9 : ∀ (S : St) (x0 : Option Nat) (x1 : Int32) (x2 : Int32), k9 S x0 x1 x2 = some (r, S1) → G K 4 S 9 [(0, vR x0), (1, vI x1), (2, vI x2)] []) : ∀ (S : St) (x0 : Option Nat) (x2 : Int32) (y0 : Int32) (y1 : Int32), n_X3_stale_b80 k9 S x0 x2 y0 y1 = some (r, S1) → G K 4 S 80 [(0, vR x0), (2, vI x2)] [vI y0, vI y1] := by
  intro S x0 x2 y0 y1 hd
  unfold n_X3_stale_b80 at hd
  refine g_iadd C dX3_stale_80 ?_
  refine g_istore_n (L' := [(1, vI (y1 + y0)), (0, vR x0), (2, vI x2)]) C dX3_stale_81 rfl (by decide) rfl ?_
  refine g_iinc (v := x2 + 1) (L' := [(2, vI (x2 + 1)), (1, vI (y1 + y0)), (0, vR x0)]) C dX3_stale_82 2 rfl rfl (by decide) rfl ?_
  refine g_goto (tgt := 9) C dX3_stale_85 (by decide) ?_
  refine g_sub [2, 1, 0] rfl ?_
  exact h9 _ _ _ _ hd
theorem w_X3_stale_b79 {K : KT} {r : Int32} {S1 : St} (C : GC K RX3 cX3_stale 4 4 []) (E : EH (kΓ K) (kHI K) (kl K)) (Q : GQ K (some (Jvm.ClassFile.FieldType.int)) (.inl (some (vI r))) S1) {k9 : St → Option Nat → Int32 → Int32 → Option (Int32 × St)} (h9 : ∀ (S : St) (x0 : Option Nat) (x1 : Int32) (x2 : Int32), k9 S x0 x1 x2 = some (r, S1) → G K 4 S 9 [(0, vR x0), (1, vI x1), (2, vI x2)] []) : ∀ (S : St) (x0 : Option Nat) (x2 : Int32) (y0 : Int32), n_X3_stale_b79 k9 S x0 x2 y0 = some (r, S1) → G K 4 S 79 [(0, vR x0), (2, vI x2)] [vI y0] := by
  intro S x0 x2 y0 hd
  unfold n_X3_stale_b79 at hd
  refine g_iconst (v := 0) C dX3_stale_79 (by decide) ?_
  refine g_sub [0, 1] rfl ?_
  exact w_X3_stale_b80 C E Q h9 _ _ _ _ _ hd
theorem w_X3_stale_b59 {K : KT} {r : Int32} {S1 : St} (C : GC K RX3 cX3_stale 4 4 []) (E : EH (kΓ K) (kHI K) (kl K)) (Q : GQ K (some (Jvm.ClassFile.FieldType.int)) (.inl (some (vI r))) S1) {k9 : St → Option Nat → Int32 → Int32 → Option (Int32 × St)} (h9 : ∀ (S : St) (x0 : Option Nat) (x1 : Int32) (x2 : Int32), k9 S x0 x1 x2 = some (r, S1) → G K 4 S 9 [(0, vR x0), (1, vI x1), (2, vI x2)] []) : ∀ (S : St) (x0 : Option Nat) (x2 : Int32) (x3 : Int32) (y0 : Int32) (y1 : Int32), n_X3_stale_b59 k9 S x0 x2 x3 y0 y1 = some (r, S1) → G K 4 S 59 [(0, vR x0), (2, vI x2), (3, vI x3)] [vI y0, vI y1] := by
  intro S x0 x2 x3 y0 y1 hd
  unfold n_X3_stale_b59 at hd
  refine g_iadd C dX3_stale_59 ?_
  refine g_istore_n (L' := [(1, vI (y1 + y0)), (0, vR x0), (2, vI x2), (3, vI x3)]) C dX3_stale_60 rfl (by decide) rfl ?_
  refine g_iload_n C dX3_stale_61 rfl 0 rfl ?_
  refine g_aload_n C dX3_stale_62 rfl 1 rfl ?_
  obtain ⟨v1, hv1, hd⟩ := Option.bind_eq_some_iff.mp hd
  refine g_fld C gk_X3 (k := 22) (by decide) q1988 (Or.inl rfl) dX3_stale_63 (gR_v hv1) ?_
  refine g_iload_n C dX3_stale_66 rfl 2 rfl ?_
  obtain ⟨v2, hv2, hd⟩ := Option.bind_eq_some_iff.mp hd
  refine g_zaldV C dX3_stale_67 hv2 ?_
  refine g_if_eq (tgt := 79) C dX3_stale_68 (by decide) hd (fun hd => ?_) (fun hd => ?_)
  · refine g_sub [1, 2] rfl ?_
    exact w_X3_stale_b79 C E Q h9 _ _ _ _ hd
  · refine g_iload_n C dX3_stale_71 rfl 3 rfl ?_
    refine g_if_ne (tgt := 79) C dX3_stale_72 (by decide) hd (fun hd => ?_) (fun hd => ?_)
    · refine g_sub [1, 2] rfl ?_
      exact w_X3_stale_b79 C E Q h9 _ _ _ _ hd
    · refine g_iconst (v := 1) C dX3_stale_75 (by decide) ?_
      refine g_goto (tgt := 80) C dX3_stale_76 (by decide) ?_
      refine g_sub [1, 2] rfl ?_
      exact w_X3_stale_b80 C E Q h9 _ _ _ _ _ hd
theorem w_X3_stale_b58 {K : KT} {r : Int32} {S1 : St} (C : GC K RX3 cX3_stale 4 4 []) (E : EH (kΓ K) (kHI K) (kl K)) (Q : GQ K (some (Jvm.ClassFile.FieldType.int)) (.inl (some (vI r))) S1) {k9 : St → Option Nat → Int32 → Int32 → Option (Int32 × St)} (h9 : ∀ (S : St) (x0 : Option Nat) (x1 : Int32) (x2 : Int32), k9 S x0 x1 x2 = some (r, S1) → G K 4 S 9 [(0, vR x0), (1, vI x1), (2, vI x2)] []) : ∀ (S : St) (x0 : Option Nat) (x2 : Int32) (x3 : Int32) (y0 : Int32), n_X3_stale_b58 k9 S x0 x2 x3 y0 = some (r, S1) → G K 4 S 58 [(0, vR x0), (2, vI x2), (3, vI x3)] [vI y0] := by
  intro S x0 x2 x3 y0 hd
  unfold n_X3_stale_b58 at hd
  refine g_iconst (v := 0) C dX3_stale_58 (by decide) ?_
  refine g_sub [0, 1, 2] rfl ?_
  exact w_X3_stale_b59 C E Q h9 _ _ _ _ _ _ hd
theorem w_X3_stale_b31 {K : KT} {r : Int32} {S1 : St} (C : GC K RX3 cX3_stale 4 4 []) (E : EH (kΓ K) (kHI K) (kl K)) (Q : GQ K (some (Jvm.ClassFile.FieldType.int)) (.inl (some (vI r))) S1) {k9 : St → Option Nat → Int32 → Int32 → Option (Int32 × St)} (h9 : ∀ (S : St) (x0 : Option Nat) (x1 : Int32) (x2 : Int32), k9 S x0 x1 x2 = some (r, S1) → G K 4 S 9 [(0, vR x0), (1, vI x1), (2, vI x2)] []) : ∀ (S : St) (x0 : Option Nat) (x1 : Int32) (x2 : Int32) (y0 : Int32), n_X3_stale_b31 k9 S x0 x1 x2 y0 = some (r, S1) → G K 4 S 31 [(0, vR x0), (1, vI x1), (2, vI x2)] [vI y0] := by
  intro S x0 x1 x2 y0 hd
  unfold n_X3_stale_b31 at hd
  refine g_istore_n (L' := [(3, vI y0), (0, vR x0), (1, vI x1), (2, vI x2)]) C dX3_stale_31 rfl (by decide) rfl ?_
  refine g_iload_n C dX3_stale_32 rfl 2 rfl ?_
  refine g_iload_n C dX3_stale_33 rfl 0 rfl ?_
  refine g_if_eq (tgt := 58) C dX3_stale_34 (by decide) hd (fun hd => ?_) (fun hd => ?_)
  · refine g_sub [1, 3, 0] rfl ?_
    exact w_X3_stale_b58 C E Q h9 _ _ _ _ _ hd
  · refine g_aload_n C dX3_stale_37 rfl 1 rfl ?_
    obtain ⟨v1, hv1, hd⟩ := Option.bind_eq_some_iff.mp hd
    refine g_fld C gk_X3 (k := 4) (by decide) q1970 (Or.inl rfl) dX3_stale_38 (gR_v hv1) ?_
    refine g_iload_n C dX3_stale_41 rfl 3 rfl ?_
    obtain ⟨v2, hv2, hd⟩ := Option.bind_eq_some_iff.mp hd
    refine g_zaldV C dX3_stale_42 hv2 ?_
    refine g_if_ne (tgt := 58) C dX3_stale_43 (by decide) hd (fun hd => ?_) (fun hd => ?_)
    · refine g_sub [1, 3, 0] rfl ?_
      exact w_X3_stale_b58 C E Q h9 _ _ _ _ _ hd
    · refine g_aload_n C dX3_stale_46 rfl 1 rfl ?_
      refine g_iload_n C dX3_stale_47 rfl 3 rfl ?_
      obtain ⟨hg, hd⟩ := gd_some hd
      obtain ⟨v4, S3, hc, hd⟩ := bn_some hd
      refine g_cV_v (n := 1) C (gk_X3).1 q2304 q2306 qs81 q108 q2307 (by decide +kernel) (by decide) (by decide) dX3_stale_48 (As := [vI x2]) (rest := [vI x1]) rfl rfl (Nat.le_of_ble_eq_true rfl) hg (m_X3_isKnown E hc) ?_
      refine g_if_ne (tgt := 58) C dX3_stale_51 (by decide) hd (fun hd => ?_) (fun hd => ?_)
      · refine g_sub [1, 3, 0] rfl ?_
        exact w_X3_stale_b58 C E Q h9 _ _ _ _ _ hd
      · refine g_iconst (v := 1) C dX3_stale_54 (by decide) ?_
        refine g_goto (tgt := 59) C dX3_stale_55 (by decide) ?_
        refine g_sub [1, 3, 0] rfl ?_
        exact w_X3_stale_b59 C E Q h9 _ _ _ _ _ _ hd
theorem w_X3_stale_b9 {K : KT} {r : Int32} {S1 : St} (C : GC K RX3 cX3_stale 4 4 []) (E : EH (kΓ K) (kHI K) (kl K)) (Q : GQ K (some (Jvm.ClassFile.FieldType.int)) (.inl (some (vI r))) S1) : ∀ (n : Nat) (S : St) (x0 : Option Nat) (x1 : Int32) (x2 : Int32), n_X3_stale_b9 n S x0 x1 x2 = some (r, S1) → G K 4 S 9 [(0, vR x0), (1, vI x1), (2, vI x2)] [] := by
  intro n
  induction n with
  | zero => intro S x0 x1 x2 hd; cases hd
  | succ n ih =>
    intro S x0 x1 x2 hd
    unfold n_X3_stale_b9 at hd
    refine g_iload_n C dX3_stale_9 rfl 2 rfl ?_
    refine g_aload_n C dX3_stale_10 rfl 0 rfl ?_
    obtain ⟨v1, hv1, hd⟩ := Option.bind_eq_some_iff.mp hd
    refine g_fld C gk_X3 (k := 2) (by decide) q1968 (Or.inl rfl) dX3_stale_11 (gI_v hv1) ?_
    refine g_icmp_ge (tgt := 88) C dX3_stale_14 (by decide) hd (fun hd => ?_) (fun hd => ?_)
    · refine g_iload_n C dX3_stale_88 rfl 1 rfl ?_
      exact g_iret C Q hd dX3_stale_89
    · refine g_aload_n C dX3_stale_17 rfl 0 rfl ?_
      refine g_iload_n C dX3_stale_18 rfl 2 rfl ?_
      obtain ⟨hg, hd⟩ := gd_some hd
      obtain ⟨v3, S2, hc, hd⟩ := bn_some hd
      refine g_cV_v (n := 1) C (gk_X3).1 q2135 q2137 qs55 q108 q2138 (by decide +kernel) (by decide) (by decide) dX3_stale_19 (As := [vI x2]) (rest := []) rfl rfl (Nat.le_of_ble_eq_true rfl) hg (m_X3_over E hc) ?_
      refine g_iconst (v := (-1)) C dX3_stale_22 (by decide) ?_
      refine g_icmp_eq (tgt := 30) C dX3_stale_23 (by decide) hd (fun hd => ?_) (fun hd => ?_)
      · refine g_iconst (v := 0) C dX3_stale_30 (by decide) ?_
        refine g_sub [0, 1, 2] rfl ?_
        exact w_X3_stale_b31 C E Q ih _ _ _ _ _ hd
      · refine g_iconst (v := 1) C dX3_stale_26 (by decide) ?_
        refine g_goto (tgt := 31) C dX3_stale_27 (by decide) ?_
        refine g_sub [0, 1, 2] rfl ?_
        exact w_X3_stale_b31 C E Q ih _ _ _ _ _ hd
theorem w_X3_stale_b0m {K : KT} {r : Int32} {S1 : St} (C : GC K RX3 cX3_stale 4 4 []) (E : EH (kΓ K) (kHI K) (kl K)) (Q : GQ K (some (Jvm.ClassFile.FieldType.int)) (.inl (some (vI r))) S1) : ∀ (S : St) (x0 : Option Nat), n_X3_stale S x0 = some (r, S1) → G K 4 S 0 [(0, vR x0)] [] := by
  intro S x0 hd
  unfold n_X3_stale at hd
  refine g_aload_n C dX3_stale_0 rfl 0 rfl ?_
  refine g_iconst (v := 0) C dX3_stale_1 (by decide) ?_
  obtain ⟨S1, hS1, hd⟩ := Option.bind_eq_some_iff.mp hd
  refine g_put C gk_X3 (k := 0) (by decide) q1966 (Or.inl rfl) rfl dX3_stale_2 (gfit_ok (pI_v hS1).1).1 (gfit_ok (pI_v hS1).1).2 (pI_v hS1).2 ?_
  refine g_iconst (v := 0) C dX3_stale_5 (by decide) ?_
  refine g_istore_n (L' := [(1, vI (0 : Int32)), (0, vR x0)]) C dX3_stale_6 rfl (by decide) rfl ?_
  refine g_iconst (v := 0) C dX3_stale_7 (by decide) ?_
  refine g_istore_n (L' := [(2, vI (0 : Int32)), (1, vI (0 : Int32)), (0, vR x0)]) C dX3_stale_8 rfl (by decide) rfl ?_
  refine g_sub [2, 1, 0] rfl ?_
  exact w_X3_stale_b9 C E Q FU _ _ _ _ hd
theorem m_X3_stale {Γ : GG} {HI : St → Heap → Prop} {l : Launch} (E : EH Γ HI l) {S : St} {a0 : Option Nat} {r : Int32} {S1 : St} (h : n_X3_stale S a0 = some (r, S1)) : MS Γ HI l yX3_stale cX3_stale 4 (some (Jvm.ClassFile.FieldType.int)) 4 S [vR a0] (.inl (some (vI r))) S1 := by
  refine MS_of E.ntr E.hx (by decide +kernel) rfl (Nat.le_of_ble_eq_true rfl) fun K e1 e2 e3 e4 hnm C Q => ?_
  subst e1; subst e2; subst e3
  exact w_X3_stale_b0m C E Q S a0 h

def n_X3_segments (S : St) (x0 : Option Nat) : Option (Int32 × St) :=
  (pI .int S x0 15 0 (0 : Int32)).bind fun S1 =>
  (gI S1 x0 15 41).bind fun v2 =>
  rtI id (Jvm.ClassFile.FieldType.int) v2 S1
theorem w_X3_segments_b0m {K : KT} {r : Int32} {S1 : St} (C : GC K RX3 cX3_segments 1 2 []) (E : EH (kΓ K) (kHI K) (kl K)) (Q : GQ K (some (Jvm.ClassFile.FieldType.int)) (.inl (some (vI r))) S1) : ∀ (S : St) (x0 : Option Nat), n_X3_segments S x0 = some (r, S1) → G K 1 S 0 [(0, vR x0)] [] := by
  intro S x0 hd
  unfold n_X3_segments at hd
  refine g_aload_n C dX3_segments_0 rfl 0 rfl ?_
  refine g_iconst (v := 0) C dX3_segments_1 (by decide) ?_
  obtain ⟨S1, hS1, hd⟩ := Option.bind_eq_some_iff.mp hd
  refine g_put C gk_X3 (k := 0) (by decide) q1966 (Or.inl rfl) rfl dX3_segments_2 (gfit_ok (pI_v hS1).1).1 (gfit_ok (pI_v hS1).1).2 (pI_v hS1).2 ?_
  refine g_aload_n C dX3_segments_5 rfl 0 rfl ?_
  obtain ⟨v2, hv2, hd⟩ := Option.bind_eq_some_iff.mp hd
  refine g_fld C gk_X3 (k := 41) (by decide) q2007 (Or.inl rfl) dX3_segments_6 (gI_v hv2) ?_
  exact g_iret C Q hd dX3_segments_9
theorem m_X3_segments {Γ : GG} {HI : St → Heap → Prop} {l : Launch} (E : EH Γ HI l) {S : St} {a0 : Option Nat} {r : Int32} {S1 : St} (h : n_X3_segments S a0 = some (r, S1)) : MS Γ HI l yX3_segments cX3_segments 1 (some (Jvm.ClassFile.FieldType.int)) 2 S [vR a0] (.inl (some (vI r))) S1 := by
  refine MS_of E.ntr E.hx (by decide +kernel) rfl (Nat.le_of_ble_eq_true rfl) fun K e1 e2 e3 e4 hnm C Q => ?_
  subst e1; subst e2; subst e3
  exact w_X3_segments_b0m C E Q S a0 h

def n_X3_dead_b32 (k9 : St → Option Nat → Int32 → Int32 → Option (Int32 × St)) (S : St) (x0 : Option Nat) (x2 : Int32) (y0 : Int32) (y1 : Int32) : Option (Int32 × St) :=
  k9 S x0 (y1 + y0) (x2 + 1)
def n_X3_dead_b9 : Nat → St → Option Nat → Int32 → Int32 → Option (Int32 × St)
  | 0 => fun _ _ _ _ => none
  | n + 1 => fun S x0 x1 x2 =>
    (gI S x0 15 37).bind fun v1 =>
    if v1 ≤ x2 then
      rtI id (Jvm.ClassFile.FieldType.int) x1 S
    else
      (gR S x0 15 40).bind fun v2 =>
      (aI S v2 1 x2).bind fun v3 =>
      if v3 = 0 then
        n_X3_dead_b32 (n_X3_dead_b9 n) S x0 x2 (0 : Int32) x1
      else
        n_X3_dead_b32 (n_X3_dead_b9 n) S x0 x2 (1 : Int32) x1
def n_X3_dead (S : St) (x0 : Option Nat) : Option (Int32 × St) :=
  (pI .int S x0 15 0 (0 : Int32)).bind fun S1 =>
  n_X3_dead_b9 FU S1 x0 (0 : Int32) (0 : Int32)
theorem w_X3_dead_b32 {K : KT} {r : Int32} {S1 : St} (C : GC K RX3 cX3_dead 3 2 []) (E : EH (kΓ K) (kHI K) (kl K)) (Q : GQ K (some (Jvm.ClassFile.FieldType.int)) (.inl (some (vI r))) S1) {k9 : St → Option Nat → Int32 → Int32 → Option (Int32 × St)} (h9 : ∀ (S : St) (x0 : Option Nat) (x1 : Int32) (x2 : Int32), k9 S x0 x1 x2 = some (r, S1) → G K 3 S 9 [(0, vR x0), (1, vI x1), (2, vI x2)] []) : ∀ (S : St) (x0 : Option Nat) (x2 : Int32) (y0 : Int32) (y1 : Int32), n_X3_dead_b32 k9 S x0 x2 y0 y1 = some (r, S1) → G K 3 S 32 [(0, vR x0), (2, vI x2)] [vI y0, vI y1] := by
  intro S x0 x2 y0 y1 hd
  unfold n_X3_dead_b32 at hd
  refine g_iadd C dX3_dead_32 ?_
  refine g_istore_n (L' := [(1, vI (y1 + y0)), (0, vR x0), (2, vI x2)]) C dX3_dead_33 rfl (by decide) rfl ?_
  refine g_iinc (v := x2 + 1) (L' := [(2, vI (x2 + 1)), (1, vI (y1 + y0)), (0, vR x0)]) C dX3_dead_34 2 rfl rfl (by decide) rfl ?_
  refine g_goto (tgt := 9) C dX3_dead_37 (by decide) ?_
  refine g_sub [2, 1, 0] rfl ?_
  exact h9 _ _ _ _ hd
theorem w_X3_dead_b9 {K : KT} {r : Int32} {S1 : St} (C : GC K RX3 cX3_dead 3 2 []) (E : EH (kΓ K) (kHI K) (kl K)) (Q : GQ K (some (Jvm.ClassFile.FieldType.int)) (.inl (some (vI r))) S1) : ∀ (n : Nat) (S : St) (x0 : Option Nat) (x1 : Int32) (x2 : Int32), n_X3_dead_b9 n S x0 x1 x2 = some (r, S1) → G K 3 S 9 [(0, vR x0), (1, vI x1), (2, vI x2)] [] := by
  intro n
  induction n with
  | zero => intro S x0 x1 x2 hd; cases hd
  | succ n ih =>
    intro S x0 x1 x2 hd
    unfold n_X3_dead_b9 at hd
    refine g_iload_n C dX3_dead_9 rfl 2 rfl ?_
    refine g_aload_n C dX3_dead_10 rfl 0 rfl ?_
    obtain ⟨v1, hv1, hd⟩ := Option.bind_eq_some_iff.mp hd
    refine g_fld C gk_X3 (k := 37) (by decide) q2003 (Or.inl rfl) dX3_dead_11 (gI_v hv1) ?_
    refine g_icmp_ge (tgt := 40) C dX3_dead_14 (by decide) hd (fun hd => ?_) (fun hd => ?_)
    · refine g_iload_n C dX3_dead_40 rfl 1 rfl ?_
      exact g_iret C Q hd dX3_dead_41
    · refine g_iload_n C dX3_dead_17 rfl 1 rfl ?_
      refine g_aload_n C dX3_dead_18 rfl 0 rfl ?_
      obtain ⟨v2, hv2, hd⟩ := Option.bind_eq_some_iff.mp hd
      refine g_fld C gk_X3 (k := 40) (by decide) q2006 (Or.inl rfl) dX3_dead_19 (gR_v hv2) ?_
      refine g_iload_n C dX3_dead_22 rfl 2 rfl ?_
      obtain ⟨v3, hv3, hd⟩ := Option.bind_eq_some_iff.mp hd
      refine g_zaldV C dX3_dead_23 hv3 ?_
      refine g_if_eq (tgt := 31) C dX3_dead_24 (by decide) hd (fun hd => ?_) (fun hd => ?_)
      · refine g_iconst (v := 0) C dX3_dead_31 (by decide) ?_
        refine g_sub [0, 2] rfl ?_
        exact w_X3_dead_b32 C E Q ih _ _ _ _ _ hd
      · refine g_iconst (v := 1) C dX3_dead_27 (by decide) ?_
        refine g_goto (tgt := 32) C dX3_dead_28 (by decide) ?_
        refine g_sub [0, 2] rfl ?_
        exact w_X3_dead_b32 C E Q ih _ _ _ _ _ hd
theorem w_X3_dead_b0m {K : KT} {r : Int32} {S1 : St} (C : GC K RX3 cX3_dead 3 2 []) (E : EH (kΓ K) (kHI K) (kl K)) (Q : GQ K (some (Jvm.ClassFile.FieldType.int)) (.inl (some (vI r))) S1) : ∀ (S : St) (x0 : Option Nat), n_X3_dead S x0 = some (r, S1) → G K 3 S 0 [(0, vR x0)] [] := by
  intro S x0 hd
  unfold n_X3_dead at hd
  refine g_aload_n C dX3_dead_0 rfl 0 rfl ?_
  refine g_iconst (v := 0) C dX3_dead_1 (by decide) ?_
  obtain ⟨S1, hS1, hd⟩ := Option.bind_eq_some_iff.mp hd
  refine g_put C gk_X3 (k := 0) (by decide) q1966 (Or.inl rfl) rfl dX3_dead_2 (gfit_ok (pI_v hS1).1).1 (gfit_ok (pI_v hS1).1).2 (pI_v hS1).2 ?_
  refine g_iconst (v := 0) C dX3_dead_5 (by decide) ?_
  refine g_istore_n (L' := [(1, vI (0 : Int32)), (0, vR x0)]) C dX3_dead_6 rfl (by decide) rfl ?_
  refine g_iconst (v := 0) C dX3_dead_7 (by decide) ?_
  refine g_istore_n (L' := [(2, vI (0 : Int32)), (1, vI (0 : Int32)), (0, vR x0)]) C dX3_dead_8 rfl (by decide) rfl ?_
  refine g_sub [2, 1, 0] rfl ?_
  exact w_X3_dead_b9 C E Q FU _ _ _ _ hd
theorem m_X3_dead {Γ : GG} {HI : St → Heap → Prop} {l : Launch} (E : EH Γ HI l) {S : St} {a0 : Option Nat} {r : Int32} {S1 : St} (h : n_X3_dead S a0 = some (r, S1)) : MS Γ HI l yX3_dead cX3_dead 3 (some (Jvm.ClassFile.FieldType.int)) 2 S [vR a0] (.inl (some (vI r))) S1 := by
  refine MS_of E.ntr E.hx (by decide +kernel) rfl (Nat.le_of_ble_eq_true rfl) fun K e1 e2 e3 e4 hnm C Q => ?_
  subst e1; subst e2; subst e3
  exact w_X3_dead_b0m C E Q S a0 h

