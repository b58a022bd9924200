/-! the reference: work -/
def n_X3_takesPlace_b12 : Nat → St → Option Nat → Int32 → Option (Unit × St)
  | 0 => fun _ _ _ => none
  | n + 1 => fun S x0 x2 =>
    (gI S x0 15 37).bind fun v1 =>
    if v1 ≤ x2 then
      some ((), S)
    else
      (gR S x0 15 38).bind fun v2 =>
      (gR S x0 15 38).bind fun v3 =>
      (aI S v3 0 (x2 + (1 : Int32))).bind fun v4 =>
      (sI S v2 0 x2 v4).bind fun S5 =>
      (gR S5 x0 15 39).bind fun v6 =>
      (gR S5 x0 15 39).bind fun v7 =>
      (aI S5 v7 0 (x2 + (1 : Int32))).bind fun v8 =>
      (sI S5 v6 0 x2 v8).bind fun S9 =>
      (gR S9 x0 15 40).bind fun v10 =>
      (gR S9 x0 15 40).bind fun v11 =>
      (aI S9 v11 1 (x2 + (1 : Int32))).bind fun v12 =>
      (sI S9 v10 1 x2 v12).bind fun S13 =>
      (n_X3_takesPlace_b12 n) S13 x0 (x2 + 1)
def n_X3_takesPlace (S : St) (x0 : Option Nat) (x1 : Int32) : Option (Unit × St) :=
  (gI S x0 15 37).bind fun v1 =>
  (pI .int S x0 15 37 (v1 - (1 : Int32))).bind fun S2 =>
  n_X3_takesPlace_b12 FU S2 x0 x1
theorem w_X3_takesPlace_b12 {K : KT} {r : Unit} {S1 : St} (C : GC K RX3 cX3_takesPlace 3 2 []) (E : EH (kΓ K) (kHI K) (kl K)) (Q : GQ K none (.inl none) S1) : ∀ (n : Nat) (S : St) (x0 : Option Nat) (x2 : Int32), n_X3_takesPlace_b12 n S x0 x2 = some (r, S1) → G K 3 S 12 [(0, vR x0), (2, vI x2)] [] := by
  intro n
  induction n with
  | zero => intro S x0 x2 hd; cases hd
  | succ n ih =>
    intro S x0 x2 hd
    unfold n_X3_takesPlace_b12 at hd
    refine g_iload_n C dX3_takesPlace_12 rfl 1 rfl ?_
    refine g_aload_n C dX3_takesPlace_13 rfl 0 rfl ?_
    obtain ⟨v1, hv1, hd⟩ := Option.bind_eq_some_iff.mp hd
    refine g_fld C gk_X3 (k := 37) (by decide) q2003 (Or.inl rfl) dX3_takesPlace_14 (gI_v hv1) ?_
    refine g_icmp_ge (tgt := 68) C dX3_takesPlace_17 (by decide) hd (fun hd => ?_) (fun hd => ?_)
    · exact g_vret C Q hd dX3_takesPlace_68
    · refine g_aload_n C dX3_takesPlace_20 rfl 0 rfl ?_
      obtain ⟨v2, hv2, hd⟩ := Option.bind_eq_some_iff.mp hd
      refine g_fld C gk_X3 (k := 38) (by decide) q2004 (Or.inl rfl) dX3_takesPlace_21 (gR_v hv2) ?_
      refine g_iload_n C dX3_takesPlace_24 rfl 1 rfl ?_
      refine g_aload_n C dX3_takesPlace_25 rfl 0 rfl ?_
      obtain ⟨v3, hv3, hd⟩ := Option.bind_eq_some_iff.mp hd
      refine g_fld C gk_X3 (k := 38) (by decide) q2004 (Or.inl rfl) dX3_takesPlace_26 (gR_v hv3) ?_
      refine g_iload_n C dX3_takesPlace_29 rfl 1 rfl ?_
      refine g_iconst (v := 1) C dX3_takesPlace_30 (by decide) ?_
      refine g_iadd C dX3_takesPlace_31 ?_
      obtain ⟨v4, hv4, hd⟩ := Option.bind_eq_some_iff.mp hd
      refine g_ialdV C dX3_takesPlace_32 hv4 ?_
      obtain ⟨S5, hS5, hd⟩ := Option.bind_eq_some_iff.mp hd
      refine g_iastV C dX3_takesPlace_33 hS5 ?_
      refine g_aload_n C dX3_takesPlace_34 rfl 0 rfl ?_
      obtain ⟨v6, hv6, hd⟩ := Option.bind_eq_some_iff.mp hd
      refine g_fld C gk_X3 (k := 39) (by decide) q2005 (Or.inl rfl) dX3_takesPlace_35 (gR_v hv6) ?_
      refine g_iload_n C dX3_takesPlace_38 rfl 1 rfl ?_
      refine g_aload_n C dX3_takesPlace_39 rfl 0 rfl ?_
      obtain ⟨v7, hv7, hd⟩ := Option.bind_eq_some_iff.mp hd
      refine g_fld C gk_X3 (k := 39) (by decide) q2005 (Or.inl rfl) dX3_takesPlace_40 (gR_v hv7) ?_
      refine g_iload_n C dX3_takesPlace_43 rfl 1 rfl ?_
      refine g_iconst (v := 1) C dX3_takesPlace_44 (by decide) ?_
      refine g_iadd C dX3_takesPlace_45 ?_
      obtain ⟨v8, hv8, hd⟩ := Option.bind_eq_some_iff.mp hd
      refine g_ialdV C dX3_takesPlace_46 hv8 ?_
      obtain ⟨S9, hS9, hd⟩ := Option.bind_eq_some_iff.mp hd
      refine g_iastV C dX3_takesPlace_47 hS9 ?_
      refine g_aload_n C dX3_takesPlace_48 rfl 0 rfl ?_
      obtain ⟨v10, hv10, hd⟩ := Option.bind_eq_some_iff.mp hd
      refine g_fld C gk_X3 (k := 40) (by decide) q2006 (Or.inl rfl) dX3_takesPlace_49 (gR_v hv10) ?_
      refine g_iload_n C dX3_takesPlace_52 rfl 1 rfl ?_
      refine g_aload_n C dX3_takesPlace_53 rfl 0 rfl ?_
      obtain ⟨v11, hv11, hd⟩ := Option.bind_eq_some_iff.mp hd
      refine g_fld C gk_X3 (k := 40) (by decide) q2006 (Or.inl rfl) dX3_takesPlace_54 (gR_v hv11) ?_
      refine g_iload_n C dX3_takesPlace_57 rfl 1 rfl ?_
      refine g_iconst (v := 1) C dX3_takesPlace_58 (by decide) ?_
      refine g_iadd C dX3_takesPlace_59 ?_
      obtain ⟨v12, hv12, hd⟩ := Option.bind_eq_some_iff.mp hd
      refine g_zaldV C dX3_takesPlace_60 hv12 ?_
      obtain ⟨S13, hS13, hd⟩ := Option.bind_eq_some_iff.mp hd
      refine g_zastV C dX3_takesPlace_61 hS13 ?_
      refine g_iinc (v := x2 + 1) (L' := [(2, vI (x2 + 1)), (0, vR x0)]) C dX3_takesPlace_62 1 rfl rfl (by decide) rfl ?_
      refine g_goto (tgt := 12) C dX3_takesPlace_65 (by decide) ?_
      refine g_sub [1, 0] rfl ?_
      exact ih _ _ _ hd
theorem w_X3_takesPlace_b0m {K : KT} {r : Unit} {S1 : St} (C : GC K RX3 cX3_takesPlace 3 2 []) (E : EH (kΓ K) (kHI K) (kl K)) (Q : GQ K none (.inl none) S1) : ∀ (S : St) (x0 : Option Nat) (x1 : Int32), n_X3_takesPlace S x0 x1 = some (r, S1) → G K 3 S 0 [(0, vR x0), (1, vI x1)] [] := by
  intro S x0 x1 hd
  unfold n_X3_takesPlace at hd
  refine g_aload_n C dX3_takesPlace_0 rfl 0 rfl ?_
  refine g_dup C dX3_takesPlace_1 rfl ?_
  obtain ⟨v1, hv1, hd⟩ := Option.bind_eq_some_iff.mp hd
  refine g_fld C gk_X3 (k := 37) (by decide) q2003 (Or.inl rfl) dX3_takesPlace_2 (gI_v hv1) ?_
  refine g_iconst (v := 1) C dX3_takesPlace_5 (by decide) ?_
  refine g_isub C dX3_takesPlace_6 ?_
  obtain ⟨S2, hS2, hd⟩ := Option.bind_eq_some_iff.mp hd
  refine g_put C gk_X3 (k := 37) (by decide) q2003 (Or.inl rfl) rfl dX3_takesPlace_7 (gfit_ok (pI_v hS2).1).1 (gfit_ok (pI_v hS2).1).2 (pI_v hS2).2 ?_
  refine g_iload_n C dX3_takesPlace_10 rfl 1 rfl ?_
  refine g_istore_n (L' := [(2, vI x1), (0, vR x0), (1, vI x1)]) C dX3_takesPlace_11 rfl (by decide) rfl ?_
  refine g_sub [1, 0] rfl ?_
  exact w_X3_takesPlace_b12 C E Q FU _ _ _ hd
theorem m_X3_takesPlace {Γ : GG} {HI : St → Heap → Prop} {l : Launch} (E : EH Γ HI l) {S : St} {a0 : Option Nat} {a1 : Int32} {r : Unit} {S1 : St} (h : n_X3_takesPlace S a0 a1 = some (r, S1)) : MS Γ HI l yX3_takesPlace cX3_takesPlace 3 none 2 S [vR a0, vI a1] (.inl none) S1 := by
  refine MS_of E.ntr E.hx (by decide +kernel) rfl (Nat.le_of_ble_eq_true rfl) fun K e1 e2 e3 e4 hnm C Q => ?_
  subst e1; subst e2; subst e3
  exact w_X3_takesPlace_b0m C E Q S a0 a1 h

def n_X3_cleans_b35 (k7 : St → Option Nat → Int32 → Int32 → Option (Unit × St)) (S : St) (x0 : Option Nat) (x1 : Int32) (x2 : Int32) : Option (Unit × St) :=
  k7 S x0 x1 (x2 + (-1))
def n_X3_cleans_b7 : Nat → St → Option Nat → Int32 → Int32 → Option (Unit × St)
  | 0 => fun _ _ _ _ => none
  | n + 1 => fun S x0 x1 x2 =>
    if x2 < 0 then
      some ((), S)
    else
      (gR S x0 15 38).bind fun v1 =>
      (aI S v1 0 x2).bind fun v2 =>
      if v2 = x1 then
        (gR S x0 15 40).bind fun v3 =>
        (aI S v3 1 x2).bind fun v4 =>
        if v4 = 0 then
          n_X3_cleans_b35 (n_X3_cleans_b7 n) S x0 x1 x2
        else
          gd (grc S x0 15) <|
          bn (n_X3_takesPlace S x0 x2) fun _ S5 =>
          n_X3_cleans_b35 (n_X3_cleans_b7 n) S5 x0 x1 x2
      else
        n_X3_cleans_b35 (n_X3_cleans_b7 n) S x0 x1 x2
def n_X3_cleans (S : St) (x0 : Option Nat) (x1 : Int32) : Option (Unit × St) :=
  (gI S x0 15 37).bind fun v1 =>
  n_X3_cleans_b7 FU S x0 x1 (v1 - (1 : Int32))
theorem w_X3_cleans_b35 {K : KT} {r : Unit} {S1 : St} (C : GC K RX3 cX3_cleans 3 3 []) (E : EH (kΓ K) (kHI K) (kl K)) (Q : GQ K none (.inl none) S1) {k7 : St → Option Nat → Int32 → Int32 → Option (Unit × St)} (h7 : ∀ (S : St) (x0 : Option Nat) (x1 : Int32) (x2 : Int32), k7 S x0 x1 x2 = some (r, S1) → G K 3 S 7 [(0, vR x0), (1, vI x1), (2, vI x2)] []) : ∀ (S : St) (x0 : Option Nat) (x1 : Int32) (x2 : Int32), n_X3_cleans_b35 k7 S x0 x1 x2 = some (r, S1) → G K 3 S 35 [(0, vR x0), (1, vI x1), (2, vI x2)] [] := by
  intro S x0 x1 x2 hd
  unfold n_X3_cleans_b35 at hd
  refine g_iinc (v := x2 + (-1)) (L' := [(2, vI (x2 + (-1))), (0, vR x0), (1, vI x1)]) C dX3_cleans_35 2 rfl rfl (by decide) rfl ?_
  refine g_goto (tgt := 7) C dX3_cleans_38 (by decide) ?_
  refine g_sub [1, 2, 0] rfl ?_
  exact h7 _ _ _ _ hd
theorem w_X3_cleans_b7 {K : KT} {r : Unit} {S1 : St} (C : GC K RX3 cX3_cleans 3 3 []) (E : EH (kΓ K) (kHI K) (kl K)) (Q : GQ K none (.inl none) S1) : ∀ (n : Nat) (S : St) (x0 : Option Nat) (x1 : Int32) (x2 : Int32), n_X3_cleans_b7 n S x0 x1 x2 = some (r, S1) → G K 3 S 7 [(0, vR x0), (1, vI x1), (2, vI x2)] [] := by
  intro n
  induction n with
  | zero => intro S x0 x1 x2 hd; cases hd
  | succ n ih =>
    intro S x0 x1 x2 hd
    unfold n_X3_cleans_b7 at hd
    refine g_iload_n C dX3_cleans_7 rfl 2 rfl ?_
    refine g_if_lt (tgt := 41) C dX3_cleans_8 (by decide) hd (fun hd => ?_) (fun hd => ?_)
    · exact g_vret C Q hd dX3_cleans_41
    · refine g_aload_n C dX3_cleans_11 rfl 0 rfl ?_
      obtain ⟨v1, hv1, hd⟩ := Option.bind_eq_some_iff.mp hd
      refine g_fld C gk_X3 (k := 38) (by decide) q2004 (Or.inl rfl) dX3_cleans_12 (gR_v hv1) ?_
      refine g_iload_n C dX3_cleans_15 rfl 2 rfl ?_
      obtain ⟨v2, hv2, hd⟩ := Option.bind_eq_some_iff.mp hd
      refine g_ialdV C dX3_cleans_16 hv2 ?_
      refine g_iload_n C dX3_cleans_17 rfl 1 rfl ?_
      refine g_icmp_ne (tgt := 35) C dX3_cleans_18 (by decide) hd (fun hd => ?_) (fun hd => ?_)
      · refine g_sub [0, 1, 2] rfl ?_
        exact w_X3_cleans_b35 C E Q ih _ _ _ _ hd
      · refine g_aload_n C dX3_cleans_21 rfl 0 rfl ?_
        obtain ⟨v3, hv3, hd⟩ := Option.bind_eq_some_iff.mp hd
        refine g_fld C gk_X3 (k := 40) (by decide) q2006 (Or.inl rfl) dX3_cleans_22 (gR_v hv3) ?_
        refine g_iload_n C dX3_cleans_25 rfl 2 rfl ?_
        obtain ⟨v4, hv4, hd⟩ := Option.bind_eq_some_iff.mp hd
        refine g_zaldV C dX3_cleans_26 hv4 ?_
        refine g_if_eq (tgt := 35) C dX3_cleans_27 (by decide) hd (fun hd => ?_) (fun hd => ?_)
        · refine g_sub [0, 1, 2] rfl ?_
          exact w_X3_cleans_b35 C E Q ih _ _ _ _ hd
        · refine g_aload_n C dX3_cleans_30 rfl 0 rfl ?_
          refine g_iload_n C dX3_cleans_31 rfl 2 rfl ?_
          obtain ⟨hg, hd⟩ := gd_some hd
          obtain ⟨_, S5, hc, hd⟩ := bn_some hd
          refine g_cV_n (n := 1) C (gk_X3).1 q2324 q2326 qs86 q108 q2327 (by decide +kernel) (by decide) (by decide) dX3_cleans_32 (As := [vI x2]) (rest := []) rfl rfl (Nat.le_of_ble_eq_true rfl) hg (m_X3_takesPlace E hc) ?_
          refine g_sub [0, 1, 2] rfl ?_
          exact w_X3_cleans_b35 C E Q ih _ _ _ _ hd
theorem w_X3_cleans_b0m {K : KT} {r : Unit} {S1 : St} (C : GC K RX3 cX3_cleans 3 3 []) (E : EH (kΓ K) (kHI K) (kl K)) (Q : GQ K none (.inl none) S1) : ∀ (S : St) (x0 : Option Nat) (x1 : Int32), n_X3_cleans S x0 x1 = some (r, S1) → G K 3 S 0 [(0, vR x0), (1, vI x1)] [] := by
  intro S x0 x1 hd
  unfold n_X3_cleans at hd
  refine g_aload_n C dX3_cleans_0 rfl 0 rfl ?_
  obtain ⟨v1, hv1, hd⟩ := Option.bind_eq_some_iff.mp hd
  refine g_fld C gk_X3 (k := 37) (by decide) q2003 (Or.inl rfl) dX3_cleans_1 (gI_v hv1) ?_
  refine g_iconst (v := 1) C dX3_cleans_4 (by decide) ?_
  refine g_isub C dX3_cleans_5 ?_
  refine g_istore_n (L' := [(2, vI (v1 - (1 : Int32))), (0, vR x0), (1, vI x1)]) C dX3_cleans_6 rfl (by decide) rfl ?_
  refine g_sub [1, 2, 0] rfl ?_
  exact w_X3_cleans_b7 C E Q FU _ _ _ _ hd
theorem m_X3_cleans {Γ : GG} {HI : St → Heap → Prop} {l : Launch} (E : EH Γ HI l) {S : St} {a0 : Option Nat} {a1 : Int32} {r : Unit} {S1 : St} (h : n_X3_cleans S a0 a1 = some (r, S1)) : MS Γ HI l yX3_cleans cX3_cleans 3 none 3 S [vR a0, vI a1] (.inl none) S1 := by
  refine MS_of E.ntr E.hx (by decide +kernel) rfl (Nat.le_of_ble_eq_true rfl) fun K e1 e2 e3 e4 hnm C Q => ?_
  subst e1; subst e2; subst e3
  exact w_X3_cleans_b0m C E Q S a0 a1 h

def n_X3_joins_b42 (k12 : St → Option Nat → Int32 → Int32 → Option (Unit × St)) (S : St) (x0 : Option Nat) (x1 : Int32) (x2 : Int32) (y0 : Int32) (y1 : Int32) (y2 : Int32) (y3 : Option Nat) : Option (Unit × St) :=
  (sI S y3 0 y2 (y1 - y0)).bind fun S1 =>
  k12 S1 x0 x1 (x2 + 1)
def n_X3_joins_b12 : Nat → St → Option Nat → Int32 → Int32 → Option (Unit × St)
  | 0 => fun _ _ _ _ => none
  | n + 1 => fun S x0 x1 x2 =>
    (gI S x0 15 37).bind fun v1 =>
    if v1 ≤ x2 then
      some ((), S)
    else
      (gR S x0 15 38).bind fun v2 =>
      (aI S v2 0 x2).bind fun v3 =>
      (gR S x0 15 38).bind fun v4 =>
      (aI S v4 0 x2).bind fun v5 =>
      if v5 ≤ x1 then
        n_X3_joins_b42 (n_X3_joins_b12 n) S x0 x1 x2 (0 : Int32) v3 x2 v2
      else
        n_X3_joins_b42 (n_X3_joins_b12 n) S x0 x1 x2 (1 : Int32) v3 x2 v2
def n_X3_joins (S : St) (x0 : Option Nat) (x1 : Int32) : Option (Unit × St) :=
  (gI S x0 15 41).bind fun v1 =>
  (pI .int S x0 15 41 (v1 - (1 : Int32))).bind fun S2 =>
  n_X3_joins_b12 FU S2 x0 x1 (0 : Int32)
theorem w_X3_joins_b42 {K : KT} {r : Unit} {S1 : St} (C : GC K RX3 cX3_joins 3 2 []) (E : EH (kΓ K) (kHI K) (kl K)) (Q : GQ K none (.inl none) S1) {k12 : St → Option Nat → Int32 → Int32 → Option (Unit × St)} (h12 : ∀ (S : St) (x0 : Option Nat) (x1 : Int32) (x2 : Int32), k12 S x0 x1 x2 = some (r, S1) → G K 3 S 12 [(0, vR x0), (1, vI x1), (2, vI x2)] []) : ∀ (S : St) (x0 : Option Nat) (x1 : Int32) (x2 : Int32) (y0 : Int32) (y1 : Int32) (y2 : Int32) (y3 : Option Nat), n_X3_joins_b42 k12 S x0 x1 x2 y0 y1 y2 y3 = some (r, S1) → G K 3 S 42 [(0, vR x0), (1, vI x1), (2, vI x2)] [vI y0, vI y1, vI y2, vR y3] := by
  intro S x0 x1 x2 y0 y1 y2 y3 hd
  unfold n_X3_joins_b42 at hd
  refine g_isub C dX3_joins_42 ?_
  obtain ⟨S1, hS1, hd⟩ := Option.bind_eq_some_iff.mp hd
  refine g_iastV C dX3_joins_43 hS1 ?_
  refine g_iinc (v := x2 + 1) (L' := [(2, vI (x2 + 1)), (0, vR x0), (1, vI x1)]) C dX3_joins_44 2 rfl rfl (by decide) rfl ?_
  refine g_goto (tgt := 12) C dX3_joins_47 (by decide) ?_
  refine g_sub [1, 2, 0] rfl ?_
  exact h12 _ _ _ _ hd
theorem w_X3_joins_b12 {K : KT} {r : Unit} {S1 : St} (C : GC K RX3 cX3_joins 3 2 []) (E : EH (kΓ K) (kHI K) (kl K)) (Q : GQ K none (.inl none) S1) : ∀ (n : Nat) (S : St) (x0 : Option Nat) (x1 : Int32) (x2 : Int32), n_X3_joins_b12 n S x0 x1 x2 = some (r, S1) → G K 3 S 12 [(0, vR x0), (1, vI x1), (2, vI x2)] [] := by
  intro n
  induction n with
  | zero => intro S x0 x1 x2 hd; cases hd
  | succ n ih =>
    intro S x0 x1 x2 hd
    unfold n_X3_joins_b12 at hd
    refine g_iload_n C dX3_joins_12 rfl 2 rfl ?_
    refine g_aload_n C dX3_joins_13 rfl 0 rfl ?_
    obtain ⟨v1, hv1, hd⟩ := Option.bind_eq_some_iff.mp hd
    refine g_fld C gk_X3 (k := 37) (by decide) q2003 (Or.inl rfl) dX3_joins_14 (gI_v hv1) ?_
    refine g_icmp_ge (tgt := 50) C dX3_joins_17 (by decide) hd (fun hd => ?_) (fun hd => ?_)
    · exact g_vret C Q hd dX3_joins_50
    · refine g_aload_n C dX3_joins_20 rfl 0 rfl ?_
      obtain ⟨v2, hv2, hd⟩ := Option.bind_eq_some_iff.mp hd
      refine g_fld C gk_X3 (k := 38) (by decide) q2004 (Or.inl rfl) dX3_joins_21 (gR_v hv2) ?_
      refine g_iload_n C dX3_joins_24 rfl 2 rfl ?_
      refine g_dup2 C dX3_joins_25 rfl rfl ?_
      obtain ⟨v3, hv3, hd⟩ := Option.bind_eq_some_iff.mp hd
      refine g_ialdV C dX3_joins_26 hv3 ?_
      refine g_aload_n C dX3_joins_27 rfl 0 rfl ?_
      obtain ⟨v4, hv4, hd⟩ := Option.bind_eq_some_iff.mp hd
      refine g_fld C gk_X3 (k := 38) (by decide) q2004 (Or.inl rfl) dX3_joins_28 (gR_v hv4) ?_
      refine g_iload_n C dX3_joins_31 rfl 2 rfl ?_
      obtain ⟨v5, hv5, hd⟩ := Option.bind_eq_some_iff.mp hd
      refine g_ialdV C dX3_joins_32 hv5 ?_
      refine g_iload_n C dX3_joins_33 rfl 1 rfl ?_
      refine g_icmp_le (tgt := 41) C dX3_joins_34 (by decide) hd (fun hd => ?_) (fun hd => ?_)
      · refine g_iconst (v := 0) C dX3_joins_41 (by decide) ?_
        refine g_sub [0, 1, 2] rfl ?_
        exact w_X3_joins_b42 C E Q ih _ _ _ _ _ _ _ _ hd
      · refine g_iconst (v := 1) C dX3_joins_37 (by decide) ?_
        refine g_goto (tgt := 42) C dX3_joins_38 (by decide) ?_
        refine g_sub [0, 1, 2] rfl ?_
        exact w_X3_joins_b42 C E Q ih _ _ _ _ _ _ _ _ hd
theorem w_X3_joins_b0m {K : KT} {r : Unit} {S1 : St} (C : GC K RX3 cX3_joins 3 2 []) (E : EH (kΓ K) (kHI K) (kl K)) (Q : GQ K none (.inl none) S1) : ∀ (S : St) (x0 : Option Nat) (x1 : Int32), n_X3_joins S x0 x1 = some (r, S1) → G K 3 S 0 [(0, vR x0), (1, vI x1)] [] := by
  intro S x0 x1 hd
  unfold n_X3_joins at hd
  refine g_aload_n C dX3_joins_0 rfl 0 rfl ?_
  refine g_dup C dX3_joins_1 rfl ?_
  obtain ⟨v1, hv1, hd⟩ := Option.bind_eq_some_iff.mp hd
  refine g_fld C gk_X3 (k := 41) (by decide) q2007 (Or.inl rfl) dX3_joins_2 (gI_v hv1) ?_
  refine g_iconst (v := 1) C dX3_joins_5 (by decide) ?_
  refine g_isub C dX3_joins_6 ?_
  obtain ⟨S2, hS2, hd⟩ := Option.bind_eq_some_iff.mp hd
  refine g_put C gk_X3 (k := 41) (by decide) q2007 (Or.inl rfl) rfl dX3_joins_7 (gfit_ok (pI_v hS2).1).1 (gfit_ok (pI_v hS2).1).2 (pI_v hS2).2 ?_
  refine g_iconst (v := 0) C dX3_joins_10 (by decide) ?_
  refine g_istore_n (L' := [(2, vI (0 : Int32)), (0, vR x0), (1, vI x1)]) C dX3_joins_11 rfl (by decide) rfl ?_
  refine g_sub [1, 2, 0] rfl ?_
  exact w_X3_joins_b12 C E Q FU _ _ _ _ hd
theorem m_X3_joins {Γ : GG} {HI : St → Heap → Prop} {l : Launch} (E : EH Γ HI l) {S : St} {a0 : Option Nat} {a1 : Int32} {r : Unit} {S1 : St} (h : n_X3_joins S a0 a1 = some (r, S1)) : MS Γ HI l yX3_joins cX3_joins 3 none 2 S [vR a0, vI a1] (.inl none) S1 := by
  refine MS_of E.ntr E.hx (by decide +kernel) rfl (Nat.le_of_ble_eq_true rfl) fun K e1 e2 e3 e4 hnm C Q => ?_
  subst e1; subst e2; subst e3
  exact w_X3_joins_b0m C E Q S a0 a1 h

def n_X3_count_b45 (k5 : St → Option Nat → Int32 → Int32 → Int32 → Int32 → Option (Int32 × St)) (S : St) (x0 : Option Nat) (x1 : Int32) (x2 : Int32) (x4 : Int32) (y0 : Int32) (y1 : Int32) : Option (Int32 × St) :=
  k5 S x0 x1 x2 (y1 + y0) (x4 + 1)
def n_X3_count_b40 (k5 : St → Option Nat → Int32 → Int32 → Int32 → Int32 → Option (Int32 × St)) (S : St) (x0 : Option Nat) (x1 : Int32) (x2 : Int32) (x4 : Int32) (y0 : Int32) : Option (Int32 × St) :=
  n_X3_count_b45 k5 S x0 x1 x2 x4 (1 : Int32) y0
def n_X3_count_b44 (k5 : St → Option Nat → Int32 → Int32 → Int32 → Int32 → Option (Int32 × St)) (S : St) (x0 : Option Nat) (x1 : Int32) (x2 : Int32) (x4 : Int32) (y0 : Int32) : Option (Int32 × St) :=
  n_X3_count_b45 k5 S x0 x1 x2 x4 (0 : Int32) y0
def n_X3_count_b5 : Nat → St → Option Nat → Int32 → Int32 → Int32 → Int32 → Option (Int32 × St)
  | 0 => fun _ _ _ _ _ _ => none
  | n + 1 => fun S x0 x1 x2 x3 x4 =>
    (gI S x0 15 37).bind fun v1 =>
    if v1 ≤ x4 then
      rtI id (Jvm.ClassFile.FieldType.int) x3 S
    else
      (gR S x0 15 38).bind fun v2 =>
      (aI S v2 0 x4).bind fun v3 =>
      if v3 = x1 then
        (gR S x0 15 40).bind fun v4 =>
        (aI S v4 1 x4).bind fun v5 =>
        if v5 = 0 then
          if x2 = 0 then
            n_X3_count_b40 (n_X3_count_b5 n) S x0 x1 x2 x4 x3
          else
            n_X3_count_b44 (n_X3_count_b5 n) S x0 x1 x2 x4 x3
        else
          n_X3_count_b40 (n_X3_count_b5 n) S x0 x1 x2 x4 x3
      else
        n_X3_count_b44 (n_X3_count_b5 n) S x0 x1 x2 x4 x3
def n_X3_count (S : St) (x0 : Option Nat) (x1 : Int32) (x2 : Int32) : Option (Int32 × St) :=
  n_X3_count_b5 FU S x0 x1 x2 (0 : Int32) (0 : Int32)
theorem w_X3_count_b45 {K : KT} {r : Int32} {S1 : St} (C : GC K RX3 cX3_count 5 2 []) (E : EH (kΓ K) (kHI K) (kl K)) (Q : GQ K (some (Jvm.ClassFile.FieldType.int)) (.inl (some (vI r))) S1) {k5 : St → Option Nat → Int32 → Int32 → Int32 → Int32 → Option (Int32 × St)} (h5 : ∀ (S : St) (x0 : Option Nat) (x1 : Int32) (x2 : Int32) (x3 : Int32) (x4 : Int32), k5 S x0 x1 x2 x3 x4 = some (r, S1) → G K 5 S 5 [(0, vR x0), (1, vI x1), (2, vI x2), (3, vI x3), (4, vI x4)] []) : ∀ (S : St) (x0 : Option Nat) (x1 : Int32) (x2 : Int32) (x4 : Int32) (y0 : Int32) (y1 : Int32), n_X3_count_b45 k5 S x0 x1 x2 x4 y0 y1 = some (r, S1) → G K 5 S 45 [(0, vR x0), (1, vI x1), (2, vI x2), (4, vI x4)] [vI y0, vI y1] := by
  intro S x0 x1 x2 x4 y0 y1 hd
  unfold n_X3_count_b45 at hd
  refine g_iadd C dX3_count_45 ?_
  refine g_istore_n (L' := [(3, vI (y1 + y0)), (0, vR x0), (1, vI x1), (2, vI x2), (4, vI x4)]) C dX3_count_46 rfl (by decide) rfl ?_
  refine g_iinc (v := x4 + 1) (L' := [(4, vI (x4 + 1)), (3, vI (y1 + y0)), (0, vR x0), (1, vI x1), (2, vI x2)]) C dX3_count_47 4 rfl rfl (by decide) rfl ?_
  refine g_goto (tgt := 5) C dX3_count_50 (by decide) ?_
  refine g_sub [2, 3, 4, 1, 0] rfl ?_
  exact h5 _ _ _ _ _ _ hd
theorem w_X3_count_b40 {K : KT} {r : Int32} {S1 : St} (C : GC K RX3 cX3_count 5 2 []) (E : EH (kΓ K) (kHI K) (kl K)) (Q : GQ K (some (Jvm.ClassFile.FieldType.int)) (.inl (some (vI r))) S1) {k5 : St → Option Nat → Int32 → Int32 → Int32 → Int32 → Option (Int32 × St)} (h5 : ∀ (S : St) (x0 : Option Nat) (x1 : Int32) (x2 : Int32) (x3 : Int32) (x4 : Int32), k5 S x0 x1 x2 x3 x4 = some (r, S1) → G K 5 S 5 [(0, vR x0), (1, vI x1), (2, vI x2), (3, vI x3), (4, vI x4)] []) : ∀ (S : St) (x0 : Option Nat) (x1 : Int32) (x2 : Int32) (x4 : Int32) (y0 : Int32), n_X3_count_b40 k5 S x0 x1 x2 x4 y0 = some (r, S1) → G K 5 S 40 [(0, vR x0), (1, vI x1), (2, vI x2), (4, vI x4)] [vI y0] := by
  intro S x0 x1 x2 x4 y0 hd
  unfold n_X3_count_b40 at hd
  refine g_iconst (v := 1) C dX3_count_40 (by decide) ?_
  refine g_goto (tgt := 45) C dX3_count_41 (by decide) ?_
  refine g_sub [0, 1, 2, 3] rfl ?_
  exact w_X3_count_b45 C E Q h5 _ _ _ _ _ _ _ hd
theorem w_X3_count_b44 {K : KT} {r : Int32} {S1 : St} (C : GC K RX3 cX3_count 5 2 []) (E : EH (kΓ K) (kHI K) (kl K)) (Q : GQ K (some (Jvm.ClassFile.FieldType.int)) (.inl (some (vI r))) S1) {k5 : St → Option Nat → Int32 → Int32 → Int32 → Int32 → Option (Int32 × St)} (h5 : ∀ (S : St) (x0 : Option Nat) (x1 : Int32) (x2 : Int32) (x3 : Int32) (x4 : Int32), k5 S x0 x1 x2 x3 x4 = some (r, S1) → G K 5 S 5 [(0, vR x0), (1, vI x1), (2, vI x2), (3, vI x3), (4, vI x4)] []) : ∀ (S : St) (x0 : Option Nat) (x1 : Int32) (x2 : Int32) (x4 : Int32) (y0 : Int32), n_X3_count_b44 k5 S x0 x1 x2 x4 y0 = some (r, S1) → G K 5 S 44 [(0, vR x0), (1, vI x1), (2, vI x2), (4, vI x4)] [vI y0] := by
  intro S x0 x1 x2 x4 y0 hd
  unfold n_X3_count_b44 at hd
  refine g_iconst (v := 0) C dX3_count_44 (by decide) ?_
  refine g_sub [0, 1, 2, 3] rfl ?_
  exact w_X3_count_b45 C E Q h5 _ _ _ _ _ _ _ hd
theorem w_X3_count_b5 {K : KT} {r : Int32} {S1 : St} (C : GC K RX3 cX3_count 5 2 []) (E : EH (kΓ K) (kHI K) (kl K)) (Q : GQ K (some (Jvm.ClassFile.FieldType.int)) (.inl (some (vI r))) S1) : ∀ (n : Nat) (S : St) (x0 : Option Nat) (x1 : Int32) (x2 : Int32) (x3 : Int32) (x4 : Int32), n_X3_count_b5 n S x0 x1 x2 x3 x4 = some (r, S1) → G K 5 S 5 [(0, vR x0), (1, vI x1), (2, vI x2), (3, vI x3), (4, vI x4)] [] := by
  intro n
  induction n with
  | zero => intro S x0 x1 x2 x3 x4 hd; cases hd
  | succ n ih =>
    intro S x0 x1 x2 x3 x4 hd
    unfold n_X3_count_b5 at hd
    refine g_iload C dX3_count_5 4 rfl ?_
    refine g_aload_n C dX3_count_7 rfl 0 rfl ?_
    obtain ⟨v1, hv1, hd⟩ := Option.bind_eq_some_iff.mp hd
    refine g_fld C gk_X3 (k := 37) (by decide) q2003 (Or.inl rfl) dX3_count_8 (gI_v hv1) ?_
    refine g_icmp_ge (tgt := 53) C dX3_count_11 (by decide) hd (fun hd => ?_) (fun hd => ?_)
    · refine g_iload_n C dX3_count_53 rfl 3 rfl ?_
      exact g_iret C Q hd dX3_count_54
    · refine g_iload_n C dX3_count_14 rfl 3 rfl ?_
      refine g_aload_n C dX3_count_15 rfl 0 rfl ?_
      obtain ⟨v2, hv2, hd⟩ := Option.bind_eq_some_iff.mp hd
      refine g_fld C gk_X3 (k := 38) (by decide) q2004 (Or.inl rfl) dX3_count_16 (gR_v hv2) ?_
      refine g_iload C dX3_count_19 4 rfl ?_
      obtain ⟨v3, hv3, hd⟩ := Option.bind_eq_some_iff.mp hd
      refine g_ialdV C dX3_count_21 hv3 ?_
      refine g_iload_n C dX3_count_22 rfl 1 rfl ?_
      refine g_icmp_ne (tgt := 44) C dX3_count_23 (by decide) hd (fun hd => ?_) (fun hd => ?_)
      · refine g_sub [0, 1, 2, 4] rfl ?_
        exact w_X3_count_b44 C E Q ih _ _ _ _ _ _ hd
      · refine g_aload_n C dX3_count_26 rfl 0 rfl ?_
        obtain ⟨v4, hv4, hd⟩ := Option.bind_eq_some_iff.mp hd
        refine g_fld C gk_X3 (k := 40) (by decide) q2006 (Or.inl rfl) dX3_count_27 (gR_v hv4) ?_
        refine g_iload C dX3_count_30 4 rfl ?_
        obtain ⟨v5, hv5, hd⟩ := Option.bind_eq_some_iff.mp hd
        refine g_zaldV C dX3_count_32 hv5 ?_
        refine g_if_ne (tgt := 40) C dX3_count_33 (by decide) hd (fun hd => ?_) (fun hd => ?_)
        · refine g_sub [0, 1, 2, 4] rfl ?_
          exact w_X3_count_b40 C E Q ih _ _ _ _ _ _ hd
        · refine g_iload_n C dX3_count_36 rfl 2 rfl ?_
          refine g_if_ne (tgt := 44) C dX3_count_37 (by decide) hd (fun hd => ?_) (fun hd => ?_)
          · refine g_sub [0, 1, 2, 4] rfl ?_
            exact w_X3_count_b44 C E Q ih _ _ _ _ _ _ hd
          · refine g_sub [0, 1, 2, 4] rfl ?_
            exact w_X3_count_b40 C E Q ih _ _ _ _ _ _ hd
theorem w_X3_count_b0m {K : KT} {r : Int32} {S1 : St} (C : GC K RX3 cX3_count 5 2 []) (E : EH (kΓ K) (kHI K) (kl K)) (Q : GQ K (some (Jvm.ClassFile.FieldType.int)) (.inl (some (vI r))) S1) : ∀ (S : St) (x0 : Option Nat) (x1 : Int32) (x2 : Int32), n_X3_count S x0 x1 x2 = some (r, S1) → G K 5 S 0 [(0, vR x0), (1, vI x1), (2, vI x2)] [] := by
  intro S x0 x1 x2 hd
  unfold n_X3_count at hd
  refine g_iconst (v := 0) C dX3_count_0 (by decide) ?_
  refine g_istore_n (L' := [(3, vI (0 : Int32)), (0, vR x0), (1, vI x1), (2, vI x2)]) C dX3_count_1 rfl (by decide) rfl ?_
  refine g_iconst (v := 0) C dX3_count_2 (by decide) ?_
  refine g_istore (L' := [(4, vI (0 : Int32)), (3, vI (0 : Int32)), (0, vR x0), (1, vI x1), (2, vI x2)]) C dX3_count_3 (by decide) rfl ?_
  refine g_sub [2, 3, 4, 1, 0] rfl ?_
  exact w_X3_count_b5 C E Q FU _ _ _ _ _ _ hd
theorem m_X3_count {Γ : GG} {HI : St → Heap → Prop} {l : Launch} (E : EH Γ HI l) {S : St} {a0 : Option Nat} {a1 : Int32} {a2 : Int32} {r : Int32} {S1 : St} (h : n_X3_count S a0 a1 a2 = some (r, S1)) : MS Γ HI l yX3_count cX3_count 5 (some (Jvm.ClassFile.FieldType.int)) 2 S [vR a0, vI a1, vI a2] (.inl (some (vI r))) S1 := by
  refine MS_of E.ntr E.hx (by decide +kernel) rfl (Nat.le_of_ble_eq_true rfl) fun K e1 e2 e3 e4 hnm C Q => ?_
  subst e1; subst e2; subst e3
  exact w_X3_count_b0m C E Q S a0 a1 a2 h

def n_X3_indexes_b73 (k4 : St → Option Nat → Int32 → Int32 → Option (Unit × St)) (S : St) (x0 : Option Nat) (x1 : Int32) (x2 : Int32) : Option (Unit × St) :=
  k4 S x0 x1 (x2 + 1)
def n_X3_indexes_b133 (k104 : St → Option Nat → Int32 → Option (Unit × St)) (S : St) (x0 : Option Nat) (x2 : Int32) : Option (Unit × St) :=
  k104 S x0 (x2 + (-1))
def n_X3_indexes_b199 (k139 : St → Option Nat → Option (Unit × St)) (k151 : St → Option Nat → Int32 → Int32 → Option (Unit × St)) (S : St) (x0 : Option Nat) (x3 : Int32) (y0 : Int32) : Option (Unit × St) :=
  k151 S x0 y0 (x3 + 1)
def n_X3_indexes_b151 (k139 : St → Option Nat → Option (Unit × St)) : Nat → St → Option Nat → Int32 → Int32 → Option (Unit × St)
  | 0 => fun _ _ _ _ => none
  | n + 1 => fun S x0 x2 x3 =>
    (gI S x0 15 41).bind fun v1 =>
    if v1 ≤ (x3 + (1 : Int32)) then
      gd (grc S x0 15) <|
      bn (n_X3_cleans S x0 x2) fun _ S2 =>
      gd (grc S2 x0 15) <|
      bn (n_X3_cleans S2 x0 (x2 + (1 : Int32))) fun _ S4 =>
      gd (grc S4 x0 15) <|
      bn (n_X3_joins S4 x0 x2) fun _ S6 =>
      k139 S6 x0
    else
      gd (grc S x0 15) <|
      bn (n_X3_count S x0 x3 (0 : Int32)) fun v9 S8 =>
      gd (grc S8 x0 15) <|
      bn (n_X3_count S8 x0 (x3 + (1 : Int32)) (0 : Int32)) fun v11 S10 =>
      gd (grc S10 x0 15) <|
      bn (n_X3_count S10 x0 x2 (0 : Int32)) fun v13 S12 =>
      gd (grc S12 x0 15) <|
      bn (n_X3_count S12 x0 (x2 + (1 : Int32)) (0 : Int32)) fun v15 S14 =>
      if (v13 + v15) ≤ (v9 + v11) then
        n_X3_indexes_b199 k139 (n_X3_indexes_b151 k139 n) S14 x0 x3 x2
      else
        n_X3_indexes_b199 k139 (n_X3_indexes_b151 k139 n) S14 x0 x3 x3
def n_X3_indexes_b139 : Nat → St → Option Nat → Option (Unit × St)
  | 0 => fun _ _ => none
  | n + 1 => fun S x0 =>
    (gI S x0 15 41).bind fun v1 =>
    if v1 ≤ (3 : Int32) then
      some ((), S)
    else
      n_X3_indexes_b151 (n_X3_indexes_b139 n) FU S x0 (0 : Int32) (1 : Int32)
def n_X3_indexes_b104 : Nat → St → Option Nat → Int32 → Option (Unit × St)
  | 0 => fun _ _ _ => none
  | n + 1 => fun S x0 x2 =>
    if x2 < 0 then
      n_X3_indexes_b139 FU S x0
    else
      gd (grc S x0 15) <|
      bn (n_X3_count S x0 x2 (0 : Int32)) fun v2 S1 =>
      gd (grc S1 x0 15) <|
      bn (n_X3_count S1 x0 x2 (1 : Int32)) fun v4 S3 =>
      if v2 = v4 then
        gd (grc S3 x0 15) <|
        bn (n_X3_cleans S3 x0 x2) fun _ S5 =>
        gd (grc S5 x0 15) <|
        bn (n_X3_joins S5 x0 x2) fun _ S7 =>
        n_X3_indexes_b133 (n_X3_indexes_b104 n) S7 x0 x2
      else
        n_X3_indexes_b133 (n_X3_indexes_b104 n) S3 x0 x2
def n_X3_indexes_b93 (S : St) (x0 : Option Nat) (y0 : Int32) (y1 : Int32) (y2 : Option Nat) : Option (Unit × St) :=
  (pI .int S y2 15 41 (y1 + y0)).bind fun S1 =>
  (gI S1 x0 15 41).bind fun v2 =>
  n_X3_indexes_b104 FU S1 x0 (v2 - (1 : Int32))
def n_X3_indexes_b4 : Nat → St → Option Nat → Int32 → Int32 → Option (Unit × St)
  | 0 => fun _ _ _ _ => none
  | n + 1 => fun S x0 x1 x2 =>
    (gI S x0 15 2).bind fun v1 =>
    if v1 ≤ x2 then
      (gI S x0 15 41).bind fun v2 =>
      if x1 = 0 then
        n_X3_indexes_b93 S x0 (0 : Int32) v2 x0
      else
        n_X3_indexes_b93 S x0 (1 : Int32) v2 x0
    else
      (gR S x0 15 42).bind fun v3 =>
      (aI S v3 1 x2).bind fun v4 =>
      if v4 = 0 then
        n_X3_indexes_b73 (n_X3_indexes_b4 n) S x0 x1 x2
      else
        (gR S x0 15 38).bind fun v5 =>
        (gI S x0 15 37).bind fun v6 =>
        (gI S x0 15 41).bind fun v7 =>
        (sI S v5 0 v6 v7).bind fun S8 =>
        (gR S8 x0 15 39).bind fun v9 =>
        (gI S8 x0 15 37).bind fun v10 =>
        (sI S8 v9 0 v10 x2).bind fun S11 =>
        (gR S11 x0 15 40).bind fun v12 =>
        (gI S11 x0 15 37).bind fun v13 =>
        (sI S11 v12 1 v13 (0 : Int32)).bind fun S14 =>
        (gI S14 x0 15 37).bind fun v15 =>
        (pI .int S14 x0 15 37 (v15 + (1 : Int32))).bind fun S16 =>
        (gR S16 x0 15 42).bind fun v17 =>
        (sI S16 v17 1 x2 (0 : Int32)).bind fun S18 =>
        n_X3_indexes_b73 (n_X3_indexes_b4 n) S18 x0 (1 : Int32) x2
def n_X3_indexes (S : St) (x0 : Option Nat) : Option (Unit × St) :=
  n_X3_indexes_b4 FU S x0 (0 : Int32) (0 : Int32)
theorem w_X3_indexes_b73 {K : KT} {r : Unit} {S1 : St} (C : GC K RX3 cX3_indexes 4 4 []) (E : EH (kΓ K) (kHI K) (kl K)) (Q : GQ K none (.inl none) S1) {k4 : St → Option Nat → Int32 → Int32 → Option (Unit × St)} (h4 : ∀ (S : St) (x0 : Option Nat) (x1 : Int32) (x2 : Int32), k4 S x0 x1 x2 = some (r, S1) → G K 4 S 4 [(0, vR x0), (1, vI x1), (2, vI x2)] []) : ∀ (S : St) (x0 : Option Nat) (x1 : Int32) (x2 : Int32), n_X3_indexes_b73 k4 S x0 x1 x2 = some (r, S1) → G K 4 S 73 [(0, vR x0), (1, vI x1), (2, vI x2)] [] := by
  intro S x0 x1 x2 hd
  unfold n_X3_indexes_b73 at hd
  refine g_iinc (v := x2 + 1) (L' := [(2, vI (x2 + 1)), (0, vR x0), (1, vI x1)]) C dX3_indexes_73 2 rfl rfl (by decide) rfl ?_
  refine g_goto (tgt := 4) C dX3_indexes_76 (by decide) ?_
  refine g_sub [1, 2, 0] rfl ?_
  exact h4 _ _ _ _ hd
theorem w_X3_indexes_b133 {K : KT} {r : Unit} {S1 : St} (C : GC K RX3 cX3_indexes 4 4 []) (E : EH (kΓ K) (kHI K) (kl K)) (Q : GQ K none (.inl none) S1) {k104 : St → Option Nat → Int32 → Option (Unit × St)} (h104 : ∀ (S : St) (x0 : Option Nat) (x2 : Int32), k104 S x0 x2 = some (r, S1) → G K 4 S 104 [(0, vR x0), (2, vI x2)] []) : ∀ (S : St) (x0 : Option Nat) (x2 : Int32), n_X3_indexes_b133 k104 S x0 x2 = some (r, S1) → G K 4 S 133 [(0, vR x0), (2, vI x2)] [] := by
  intro S x0 x2 hd
  unfold n_X3_indexes_b133 at hd
  refine g_iinc (v := x2 + (-1)) (L' := [(2, vI (x2 + (-1))), (0, vR x0)]) C dX3_indexes_133 1 rfl rfl (by decide) rfl ?_
  refine g_goto (tgt := 104) C dX3_indexes_136 (by decide) ?_
  refine g_sub [1, 0] rfl ?_
  exact h104 _ _ _ hd
theorem w_X3_indexes_b199 {K : KT} {r : Unit} {S1 : St} (C : GC K RX3 cX3_indexes 4 4 []) (E : EH (kΓ K) (kHI K) (kl K)) (Q : GQ K none (.inl none) S1) {k139 : St → Option Nat → Option (Unit × St)} (h139 : ∀ (S : St) (x0 : Option Nat), k139 S x0 = some (r, S1) → G K 4 S 139 [(0, vR x0)] []) {k151 : St → Option Nat → Int32 → Int32 → Option (Unit × St)} (h151 : ∀ (S : St) (x0 : Option Nat) (x2 : Int32) (x3 : Int32), k151 S x0 x2 x3 = some (r, S1) → G K 4 S 151 [(0, vR x0), (2, vI x2), (3, vI x3)] []) : ∀ (S : St) (x0 : Option Nat) (x3 : Int32) (y0 : Int32), n_X3_indexes_b199 k139 k151 S x0 x3 y0 = some (r, S1) → G K 4 S 199 [(0, vR x0), (3, vI x3)] [vI y0] := by
  intro S x0 x3 y0 hd
  unfold n_X3_indexes_b199 at hd
  refine g_istore_n (L' := [(2, vI y0), (0, vR x0), (3, vI x3)]) C dX3_indexes_199 rfl (by decide) rfl ?_
  refine g_iinc (v := x3 + 1) (L' := [(3, vI (x3 + 1)), (2, vI y0), (0, vR x0)]) C dX3_indexes_200 2 rfl rfl (by decide) rfl ?_
  refine g_goto (tgt := 151) C dX3_indexes_203 (by decide) ?_
  refine g_sub [2, 1, 0] rfl ?_
  exact h151 _ _ _ _ hd
theorem w_X3_indexes_b151 {K : KT} {r : Unit} {S1 : St} (C : GC K RX3 cX3_indexes 4 4 []) (E : EH (kΓ K) (kHI K) (kl K)) (Q : GQ K none (.inl none) S1) {k139 : St → Option Nat → Option (Unit × St)} (h139 : ∀ (S : St) (x0 : Option Nat), k139 S x0 = some (r, S1) → G K 4 S 139 [(0, vR x0)] []) : ∀ (n : Nat) (S : St) (x0 : Option Nat) (x2 : Int32) (x3 : Int32), n_X3_indexes_b151 k139 n S x0 x2 x3 = some (r, S1) → G K 4 S 151 [(0, vR x0), (2, vI x2), (3, vI x3)] [] := by
  intro n
  induction n with
  | zero => intro S x0 x2 x3 hd; cases hd
  | succ n ih =>
    intro S x0 x2 x3 hd
    unfold n_X3_indexes_b151 at hd
    refine g_iload_n C dX3_indexes_151 rfl 2 rfl ?_
    refine g_iconst (v := 1) C dX3_indexes_152 (by decide) ?_
    refine g_iadd C dX3_indexes_153 ?_
    refine g_aload_n C dX3_indexes_154 rfl 0 rfl ?_
    obtain ⟨v1, hv1, hd⟩ := Option.bind_eq_some_iff.mp hd
    refine g_fld C gk_X3 (k := 41) (by decide) q2007 (Or.inl rfl) dX3_indexes_155 (gI_v hv1) ?_
    refine g_icmp_ge (tgt := 206) C dX3_indexes_158 (by decide) hd (fun hd => ?_) (fun hd => ?_)
    · refine g_aload_n C dX3_indexes_206 rfl 0 rfl ?_
      refine g_iload_n C dX3_indexes_207 rfl 1 rfl ?_
      obtain ⟨hg, hd⟩ := gd_some hd
      obtain ⟨_, S2, hc, hd⟩ := bn_some hd
      refine g_cV_n (n := 1) C (gk_X3).1 q2320 q2322 qs85 q108 q2323 (by decide +kernel) (by decide) (by decide) dX3_indexes_208 (As := [vI x2]) (rest := []) rfl rfl (Nat.le_of_ble_eq_true rfl) hg (m_X3_cleans E hc) ?_
      refine g_aload_n C dX3_indexes_211 rfl 0 rfl ?_
      refine g_iload_n C dX3_indexes_212 rfl 1 rfl ?_
      refine g_iconst (v := 1) C dX3_indexes_213 (by decide) ?_
      refine g_iadd C dX3_indexes_214 ?_
      obtain ⟨hg, hd⟩ := gd_some hd
      obtain ⟨_, S4, hc, hd⟩ := bn_some hd
      refine g_cV_n (n := 1) C (gk_X3).1 q2320 q2322 qs85 q108 q2323 (by decide +kernel) (by decide) (by decide) dX3_indexes_215 (As := [vI (x2 + (1 : Int32))]) (rest := []) rfl rfl (Nat.le_of_ble_eq_true rfl) hg (m_X3_cleans E hc) ?_
      refine g_aload_n C dX3_indexes_218 rfl 0 rfl ?_
      refine g_iload_n C dX3_indexes_219 rfl 1 rfl ?_
      obtain ⟨hg, hd⟩ := gd_some hd
      obtain ⟨_, S6, hc, hd⟩ := bn_some hd
      refine g_cV_n (n := 1) C (gk_X3).1 q2328 q2330 qs87 q108 q2331 (by decide +kernel) (by decide) (by decide) dX3_indexes_220 (As := [vI x2]) (rest := []) rfl rfl (Nat.le_of_ble_eq_true rfl) hg (m_X3_joins E hc) ?_
      refine g_goto (tgt := 139) C dX3_indexes_223 (by decide) ?_
      refine g_sub [0] rfl ?_
      exact h139 _ _ hd
    · refine g_aload_n C dX3_indexes_161 rfl 0 rfl ?_
      refine g_iload_n C dX3_indexes_162 rfl 2 rfl ?_
      refine g_iconst (v := 0) C dX3_indexes_163 (by decide) ?_
      obtain ⟨hg, hd⟩ := gd_some hd
      obtain ⟨v9, S8, hc, hd⟩ := bn_some hd
      refine g_cV_v (n := 2) C (gk_X3).1 q2316 q2318 qs84 q108 q2319 (by decide +kernel) (by decide) (by decide) dX3_indexes_164 (As := [vI x3, vI (0 : Int32)]) (rest := []) rfl rfl (Nat.le_of_ble_eq_true rfl) hg (m_X3_count E hc) ?_
      refine g_aload_n C dX3_indexes_167 rfl 0 rfl ?_
      refine g_iload_n C dX3_indexes_168 rfl 2 rfl ?_
      refine g_iconst (v := 1) C dX3_indexes_169 (by decide) ?_
      refine g_iadd C dX3_indexes_170 ?_
      refine g_iconst (v := 0) C dX3_indexes_171 (by decide) ?_
      obtain ⟨hg, hd⟩ := gd_some hd
      obtain ⟨v11, S10, hc, hd⟩ := bn_some hd
      refine g_cV_v (n := 2) C (gk_X3).1 q2316 q2318 qs84 q108 q2319 (by decide +kernel) (by decide) (by decide) dX3_indexes_172 (As := [vI (x3 + (1 : Int32)), vI (0 : Int32)]) (rest := [vI v9]) rfl rfl (Nat.le_of_ble_eq_true rfl) hg (m_X3_count E hc) ?_
      refine g_iadd C dX3_indexes_175 ?_
      refine g_aload_n C dX3_indexes_176 rfl 0 rfl ?_
      refine g_iload_n C dX3_indexes_177 rfl 1 rfl ?_
      refine g_iconst (v := 0) C dX3_indexes_178 (by decide) ?_
      obtain ⟨hg, hd⟩ := gd_some hd
      obtain ⟨v13, S12, hc, hd⟩ := bn_some hd
      refine g_cV_v (n := 2) C (gk_X3).1 q2316 q2318 qs84 q108 q2319 (by decide +kernel) (by decide) (by decide) dX3_indexes_179 (As := [vI x2, vI (0 : Int32)]) (rest := [vI (v9 + v11)]) rfl rfl (Nat.le_of_ble_eq_true rfl) hg (m_X3_count E hc) ?_
      refine g_aload_n C dX3_indexes_182 rfl 0 rfl ?_
      refine g_iload_n C dX3_indexes_183 rfl 1 rfl ?_
      refine g_iconst (v := 1) C dX3_indexes_184 (by decide) ?_
      refine g_iadd C dX3_indexes_185 ?_
      refine g_iconst (v := 0) C dX3_indexes_186 (by decide) ?_
      obtain ⟨hg, hd⟩ := gd_some hd
      obtain ⟨v15, S14, hc, hd⟩ := bn_some hd
      refine g_cV_v (n := 2) C (gk_X3).1 q2316 q2318 qs84 q108 q2319 (by decide +kernel) (by decide) (by decide) dX3_indexes_187 (As := [vI (x2 + (1 : Int32)), vI (0 : Int32)]) (rest := [vI v13, vI (v9 + v11)]) rfl rfl (Nat.le_of_ble_eq_true rfl) hg (m_X3_count E hc) ?_
      refine g_iadd C dX3_indexes_190 ?_
      refine g_icmp_ge (tgt := 198) C dX3_indexes_191 (by decide) hd (fun hd => ?_) (fun hd => ?_)
      · refine g_iload_n C dX3_indexes_198 rfl 1 rfl ?_
        refine g_sub [0, 2] rfl ?_
        exact w_X3_indexes_b199 C E Q h139 ih _ _ _ _ hd
      · refine g_iload_n C dX3_indexes_194 rfl 2 rfl ?_
        refine g_goto (tgt := 199) C dX3_indexes_195 (by decide) ?_
        refine g_sub [0, 2] rfl ?_
        exact w_X3_indexes_b199 C E Q h139 ih _ _ _ _ hd
theorem w_X3_indexes_b139 {K : KT} {r : Unit} {S1 : St} (C : GC K RX3 cX3_indexes 4 4 []) (E : EH (kΓ K) (kHI K) (kl K)) (Q : GQ K none (.inl none) S1) : ∀ (n : Nat) (S : St) (x0 : Option Nat), n_X3_indexes_b139 n S x0 = some (r, S1) → G K 4 S 139 [(0, vR x0)] [] := by
  intro n
  induction n with
  | zero => intro S x0 hd; cases hd
  | succ n ih =>
    intro S x0 hd
    unfold n_X3_indexes_b139 at hd
    refine g_aload_n C dX3_indexes_139 rfl 0 rfl ?_
    obtain ⟨v1, hv1, hd⟩ := Option.bind_eq_some_iff.mp hd
    refine g_fld C gk_X3 (k := 41) (by decide) q2007 (Or.inl rfl) dX3_indexes_140 (gI_v hv1) ?_
    refine g_iconst (v := 3) C dX3_indexes_143 (by decide) ?_
    refine g_icmp_le (tgt := 226) C dX3_indexes_144 (by decide) hd (fun hd => ?_) (fun hd => ?_)
    · exact g_vret C Q hd dX3_indexes_226
    · refine g_iconst (v := 0) C dX3_indexes_147 (by decide) ?_
      refine g_istore_n (L' := [(2, vI (0 : Int32)), (0, vR x0)]) C dX3_indexes_148 rfl (by decide) rfl ?_
      refine g_iconst (v := 1) C dX3_indexes_149 (by decide) ?_
      refine g_istore_n (L' := [(3, vI (1 : Int32)), (2, vI (0 : Int32)), (0, vR x0)]) C dX3_indexes_150 rfl (by decide) rfl ?_
      refine g_sub [2, 1, 0] rfl ?_
      exact w_X3_indexes_b151 C E Q ih FU _ _ _ _ hd
theorem w_X3_indexes_b104 {K : KT} {r : Unit} {S1 : St} (C : GC K RX3 cX3_indexes 4 4 []) (E : EH (kΓ K) (kHI K) (kl K)) (Q : GQ K none (.inl none) S1) : ∀ (n : Nat) (S : St) (x0 : Option Nat) (x2 : Int32), n_X3_indexes_b104 n S x0 x2 = some (r, S1) → G K 4 S 104 [(0, vR x0), (2, vI x2)] [] := by
  intro n
  induction n with
  | zero => intro S x0 x2 hd; cases hd
  | succ n ih =>
    intro S x0 x2 hd
    unfold n_X3_indexes_b104 at hd
    refine g_iload_n C dX3_indexes_104 rfl 1 rfl ?_
    refine g_if_lt (tgt := 139) C dX3_indexes_105 (by decide) hd (fun hd => ?_) (fun hd => ?_)
    · refine g_sub [0] rfl ?_
      exact w_X3_indexes_b139 C E Q FU _ _ hd
    · refine g_aload_n C dX3_indexes_108 rfl 0 rfl ?_
      refine g_iload_n C dX3_indexes_109 rfl 1 rfl ?_
      refine g_iconst (v := 0) C dX3_indexes_110 (by decide) ?_
      obtain ⟨hg, hd⟩ := gd_some hd
      obtain ⟨v2, S1, hc, hd⟩ := bn_some hd
      refine g_cV_v (n := 2) C (gk_X3).1 q2316 q2318 qs84 q108 q2319 (by decide +kernel) (by decide) (by decide) dX3_indexes_111 (As := [vI x2, vI (0 : Int32)]) (rest := []) rfl rfl (Nat.le_of_ble_eq_true rfl) hg (m_X3_count E hc) ?_
      refine g_aload_n C dX3_indexes_114 rfl 0 rfl ?_
      refine g_iload_n C dX3_indexes_115 rfl 1 rfl ?_
      refine g_iconst (v := 1) C dX3_indexes_116 (by decide) ?_
      obtain ⟨hg, hd⟩ := gd_some hd
      obtain ⟨v4, S3, hc, hd⟩ := bn_some hd
      refine g_cV_v (n := 2) C (gk_X3).1 q2316 q2318 qs84 q108 q2319 (by decide +kernel) (by decide) (by decide) dX3_indexes_117 (As := [vI x2, vI (1 : Int32)]) (rest := [vI v2]) rfl rfl (Nat.le_of_ble_eq_true rfl) hg (m_X3_count E hc) ?_
      refine g_icmp_ne (tgt := 133) C dX3_indexes_120 (by decide) hd (fun hd => ?_) (fun hd => ?_)
      · refine g_sub [0, 1] rfl ?_
        exact w_X3_indexes_b133 C E Q ih _ _ _ hd
      · refine g_aload_n C dX3_indexes_123 rfl 0 rfl ?_
        refine g_iload_n C dX3_indexes_124 rfl 1 rfl ?_
        obtain ⟨hg, hd⟩ := gd_some hd
        obtain ⟨_, S5, hc, hd⟩ := bn_some hd
        refine g_cV_n (n := 1) C (gk_X3).1 q2320 q2322 qs85 q108 q2323 (by decide +kernel) (by decide) (by decide) dX3_indexes_125 (As := [vI x2]) (rest := []) rfl rfl (Nat.le_of_ble_eq_true rfl) hg (m_X3_cleans E hc) ?_
        refine g_aload_n C dX3_indexes_128 rfl 0 rfl ?_
        refine g_iload_n C dX3_indexes_129 rfl 1 rfl ?_
        obtain ⟨hg, hd⟩ := gd_some hd
        obtain ⟨_, S7, hc, hd⟩ := bn_some hd
        refine g_cV_n (n := 1) C (gk_X3).1 q2328 q2330 qs87 q108 q2331 (by decide +kernel) (by decide) (by decide) dX3_indexes_130 (As := [vI x2]) (rest := []) rfl rfl (Nat.le_of_ble_eq_true rfl) hg (m_X3_joins E hc) ?_
        refine g_sub [0, 1] rfl ?_
        exact w_X3_indexes_b133 C E Q ih _ _ _ hd
theorem w_X3_indexes_b93 {K : KT} {r : Unit} {S1 : St} (C : GC K RX3 cX3_indexes 4 4 []) (E : EH (kΓ K) (kHI K) (kl K)) (Q : GQ K none (.inl none) S1) : ∀ (S : St) (x0 : Option Nat) (y0 : Int32) (y1 : Int32) (y2 : Option Nat), n_X3_indexes_b93 S x0 y0 y1 y2 = some (r, S1) → G K 4 S 93 [(0, vR x0)] [vI y0, vI y1, vR y2] := by
  intro S x0 y0 y1 y2 hd
  unfold n_X3_indexes_b93 at hd
  refine g_iadd C dX3_indexes_93 ?_
  obtain ⟨S1, hS1, hd⟩ := Option.bind_eq_some_iff.mp hd
  refine g_put C gk_X3 (k := 41) (by decide) q2007 (Or.inl rfl) rfl dX3_indexes_94 (gfit_ok (pI_v hS1).1).1 (gfit_ok (pI_v hS1).1).2 (pI_v hS1).2 ?_
  refine g_aload_n C dX3_indexes_97 rfl 0 rfl ?_
  obtain ⟨v2, hv2, hd⟩ := Option.bind_eq_some_iff.mp hd
  refine g_fld C gk_X3 (k := 41) (by decide) q2007 (Or.inl rfl) dX3_indexes_98 (gI_v hv2) ?_
  refine g_iconst (v := 1) C dX3_indexes_101 (by decide) ?_
  refine g_isub C dX3_indexes_102 ?_
  refine g_istore_n (L' := [(2, vI (v2 - (1 : Int32))), (0, vR x0)]) C dX3_indexes_103 rfl (by decide) rfl ?_
  refine g_sub [1, 0] rfl ?_
  exact w_X3_indexes_b104 C E Q FU _ _ _ hd
theorem w_X3_indexes_b4 {K : KT} {r : Unit} {S1 : St} (C : GC K RX3 cX3_indexes 4 4 []) (E : EH (kΓ K) (kHI K) (kl K)) (Q : GQ K none (.inl none) S1) : ∀ (n : Nat) (S : St) (x0 : Option Nat) (x1 : Int32) (x2 : Int32), n_X3_indexes_b4 n S x0 x1 x2 = some (r, S1) → G K 4 S 4 [(0, vR x0), (1, vI x1), (2, vI x2)] [] := by
  intro n
  induction n with
  | zero => intro S x0 x1 x2 hd; cases hd
  | succ n ih =>
    intro S x0 x1 x2 hd
    unfold n_X3_indexes_b4 at hd
    refine g_iload_n C dX3_indexes_4 rfl 2 rfl ?_
    refine g_aload_n C dX3_indexes_5 rfl 0 rfl ?_
    obtain ⟨v1, hv1, hd⟩ := Option.bind_eq_some_iff.mp hd
    refine g_fld C gk_X3 (k := 2) (by decide) q1968 (Or.inl rfl) dX3_indexes_6 (gI_v hv1) ?_
    refine g_icmp_ge (tgt := 79) C dX3_indexes_9 (by decide) hd (fun hd => ?_) (fun hd => ?_)
    · refine g_aload_n C dX3_indexes_79 rfl 0 rfl ?_
      refine g_dup C dX3_indexes_80 rfl ?_
      obtain ⟨v2, hv2, hd⟩ := Option.bind_eq_some_iff.mp hd
      refine g_fld C gk_X3 (k := 41) (by decide) q2007 (Or.inl rfl) dX3_indexes_81 (gI_v hv2) ?_
      refine g_iload_n C dX3_indexes_84 rfl 1 rfl ?_
      refine g_if_eq (tgt := 92) C dX3_indexes_85 (by decide) hd (fun hd => ?_) (fun hd => ?_)
      · refine g_iconst (v := 0) C dX3_indexes_92 (by decide) ?_
        refine g_sub [0] rfl ?_
        exact w_X3_indexes_b93 C E Q _ _ _ _ _ hd
      · refine g_iconst (v := 1) C dX3_indexes_88 (by decide) ?_
        refine g_goto (tgt := 93) C dX3_indexes_89 (by decide) ?_
        refine g_sub [0] rfl ?_
        exact w_X3_indexes_b93 C E Q _ _ _ _ _ hd
    · refine g_aload_n C dX3_indexes_12 rfl 0 rfl ?_
      obtain ⟨v3, hv3, hd⟩ := Option.bind_eq_some_iff.mp hd
      refine g_fld C gk_X3 (k := 42) (by decide) q2008 (Or.inl rfl) dX3_indexes_13 (gR_v hv3) ?_
      refine g_iload_n C dX3_indexes_16 rfl 2 rfl ?_
      obtain ⟨v4, hv4, hd⟩ := Option.bind_eq_some_iff.mp hd
      refine g_zaldV C dX3_indexes_17 hv4 ?_
      refine g_if_eq (tgt := 73) C dX3_indexes_18 (by decide) hd (fun hd => ?_) (fun hd => ?_)
      · refine g_sub [0, 1, 2] rfl ?_
        exact w_X3_indexes_b73 C E Q ih _ _ _ _ hd
      · refine g_aload_n C dX3_indexes_21 rfl 0 rfl ?_
        obtain ⟨v5, hv5, hd⟩ := Option.bind_eq_some_iff.mp hd
        refine g_fld C gk_X3 (k := 38) (by decide) q2004 (Or.inl rfl) dX3_indexes_22 (gR_v hv5) ?_
        refine g_aload_n C dX3_indexes_25 rfl 0 rfl ?_
        obtain ⟨v6, hv6, hd⟩ := Option.bind_eq_some_iff.mp hd
        refine g_fld C gk_X3 (k := 37) (by decide) q2003 (Or.inl rfl) dX3_indexes_26 (gI_v hv6) ?_
        refine g_aload_n C dX3_indexes_29 rfl 0 rfl ?_
        obtain ⟨v7, hv7, hd⟩ := Option.bind_eq_some_iff.mp hd
        refine g_fld C gk_X3 (k := 41) (by decide) q2007 (Or.inl rfl) dX3_indexes_30 (gI_v hv7) ?_
        obtain ⟨S8, hS8, hd⟩ := Option.bind_eq_some_iff.mp hd
        refine g_iastV C dX3_indexes_33 hS8 ?_
        refine g_aload_n C dX3_indexes_34 rfl 0 rfl ?_
        obtain ⟨v9, hv9, hd⟩ := Option.bind_eq_some_iff.mp hd
        refine g_fld C gk_X3 (k := 39) (by decide) q2005 (Or.inl rfl) dX3_indexes_35 (gR_v hv9) ?_
        refine g_aload_n C dX3_indexes_38 rfl 0 rfl ?_
        obtain ⟨v10, hv10, hd⟩ := Option.bind_eq_some_iff.mp hd
        refine g_fld C gk_X3 (k := 37) (by decide) q2003 (Or.inl rfl) dX3_indexes_39 (gI_v hv10) ?_
        refine g_iload_n C dX3_indexes_42 rfl 2 rfl ?_
        obtain ⟨S11, hS11, hd⟩ := Option.bind_eq_some_iff.mp hd
        refine g_iastV C dX3_indexes_43 hS11 ?_
        refine g_aload_n C dX3_indexes_44 rfl 0 rfl ?_
        obtain ⟨v12, hv12, hd⟩ := Option.bind_eq_some_iff.mp hd
        refine g_fld C gk_X3 (k := 40) (by decide) q2006 (Or.inl rfl) dX3_indexes_45 (gR_v hv12) ?_
        refine g_aload_n C dX3_indexes_48 rfl 0 rfl ?_
        obtain ⟨v13, hv13, hd⟩ := Option.bind_eq_some_iff.mp hd
        refine g_fld C gk_X3 (k := 37) (by decide) q2003 (Or.inl rfl) dX3_indexes_49 (gI_v hv13) ?_
        refine g_iconst (v := 0) C dX3_indexes_52 (by decide) ?_
        obtain ⟨S14, hS14, hd⟩ := Option.bind_eq_some_iff.mp hd
        refine g_zastV C dX3_indexes_53 hS14 ?_
        refine g_aload_n C dX3_indexes_54 rfl 0 rfl ?_
        refine g_dup C dX3_indexes_55 rfl ?_
        obtain ⟨v15, hv15, hd⟩ := Option.bind_eq_some_iff.mp hd
        refine g_fld C gk_X3 (k := 37) (by decide) q2003 (Or.inl rfl) dX3_indexes_56 (gI_v hv15) ?_
        refine g_iconst (v := 1) C dX3_indexes_59 (by decide) ?_
        refine g_iadd C dX3_indexes_60 ?_
        obtain ⟨S16, hS16, hd⟩ := Option.bind_eq_some_iff.mp hd
        refine g_put C gk_X3 (k := 37) (by decide) q2003 (Or.inl rfl) rfl dX3_indexes_61 (gfit_ok (pI_v hS16).1).1 (gfit_ok (pI_v hS16).1).2 (pI_v hS16).2 ?_
        refine g_iconst (v := 1) C dX3_indexes_64 (by decide) ?_
        refine g_istore_n (L' := [(1, vI (1 : Int32)), (0, vR x0), (2, vI x2)]) C dX3_indexes_65 rfl (by decide) rfl ?_
        refine g_aload_n C dX3_indexes_66 rfl 1 rfl ?_
        obtain ⟨v17, hv17, hd⟩ := Option.bind_eq_some_iff.mp hd
        refine g_fld C gk_X3 (k := 42) (by decide) q2008 (Or.inl rfl) dX3_indexes_67 (gR_v hv17) ?_
        refine g_iload_n C dX3_indexes_70 rfl 2 rfl ?_
        refine g_iconst (v := 0) C dX3_indexes_71 (by decide) ?_
        obtain ⟨S18, hS18, hd⟩ := Option.bind_eq_some_iff.mp hd
        refine g_zastV C dX3_indexes_72 hS18 ?_
        refine g_sub [1, 0, 2] rfl ?_
        exact w_X3_indexes_b73 C E Q ih _ _ _ _ hd
theorem w_X3_indexes_b0m {K : KT} {r : Unit} {S1 : St} (C : GC K RX3 cX3_indexes 4 4 []) (E : EH (kΓ K) (kHI K) (kl K)) (Q : GQ K none (.inl none) S1) : ∀ (S : St) (x0 : Option Nat), n_X3_indexes S x0 = some (r, S1) → G K 4 S 0 [(0, vR x0)] [] := by
  intro S x0 hd
  unfold n_X3_indexes at hd
  refine g_iconst (v := 0) C dX3_indexes_0 (by decide) ?_
  refine g_istore_n (L' := [(1, vI (0 : Int32)), (0, vR x0)]) C dX3_indexes_1 rfl (by decide) rfl ?_
  refine g_iconst (v := 0) C dX3_indexes_2 (by decide) ?_
  refine g_istore_n (L' := [(2, vI (0 : Int32)), (1, vI (0 : Int32)), (0, vR x0)]) C dX3_indexes_3 rfl (by decide) rfl ?_
  refine g_sub [2, 1, 0] rfl ?_
  exact w_X3_indexes_b4 C E Q FU _ _ _ _ hd
theorem m_X3_indexes {Γ : GG} {HI : St → Heap → Prop} {l : Launch} (E : EH Γ HI l) {S : St} {a0 : Option Nat} {r : Unit} {S1 : St} (h : n_X3_indexes S a0 = some (r, S1)) : MS Γ HI l yX3_indexes cX3_indexes 4 none 4 S [vR a0] (.inl none) S1 := by
  refine MS_of E.ntr E.hx (by decide +kernel) rfl (Nat.le_of_ble_eq_true rfl) fun K e1 e2 e3 e4 hnm C Q => ?_
  subst e1; subst e2; subst e3
  exact w_X3_indexes_b0m C E Q S a0 h

def n_X3_isWaiting_b41 (k5 : St → Option Nat → Int32 → Int32 → Int32 → Int32 → Option (Int32 × St)) (S : St) (x0 : Option Nat) (x1 : Int32) (x2 : Int32) (x4 : Int32) (y0 : Int32) : Option (Int32 × St) :=
  k5 S x0 x1 x2 y0 (x4 + 1)
def n_X3_isWaiting_b36 (k5 : St → Option Nat → Int32 → Int32 → Int32 → Int32 → Option (Int32 × St)) (S : St) (x0 : Option Nat) (x1 : Int32) (x2 : Int32) (x4 : Int32) : Option (Int32 × St) :=
  n_X3_isWaiting_b41 k5 S x0 x1 x2 x4 (1 : Int32)
def n_X3_isWaiting_b5 : Nat → St → Option Nat → Int32 → Int32 → Int32 → Int32 → Option (Int32 × St)
  | 0 => fun _ _ _ _ _ _ => none
  | n + 1 => fun S x0 x1 x2 x3 x4 =>
    (gR S x0 15 19).bind fun v1 =>
    (aI S v1 0 x1).bind fun v2 =>
    if v2 ≤ x4 then
      rtI id (Jvm.ClassFile.FieldType.boolean) x3 S
    else
      if x3 = 0 then
        (gR S x0 15 20).bind fun v3 =>
        (aI S v3 0 (((60 : Int32) * x1) + x4)).bind fun v4 =>
        if v4 = x2 then
          n_X3_isWaiting_b36 (n_X3_isWaiting_b5 n) S x0 x1 x2 x4
        else
          n_X3_isWaiting_b41 (n_X3_isWaiting_b5 n) S x0 x1 x2 x4 (0 : Int32)
      else
        n_X3_isWaiting_b36 (n_X3_isWaiting_b5 n) S x0 x1 x2 x4
def n_X3_isWaiting (S : St) (x0 : Option Nat) (x1 : Int32) (x2 : Int32) : Option (Int32 × St) :=
  n_X3_isWaiting_b5 FU S x0 x1 x2 (0 : Int32) (0 : Int32)
theorem w_X3_isWaiting_b41 {K : KT} {r : Int32} {S1 : St} (C : GC K RX3 cX3_isWaiting 5 2 []) (E : EH (kΓ K) (kHI K) (kl K)) (Q : GQ K (some (Jvm.ClassFile.FieldType.boolean)) (.inl (some (vI r))) S1) {k5 : St → Option Nat → Int32 → Int32 → Int32 → Int32 → Option (Int32 × St)} (h5 : ∀ (S : St) (x0 : Option Nat) (x1 : Int32) (x2 : Int32) (x3 : Int32) (x4 : Int32), k5 S x0 x1 x2 x3 x4 = some (r, S1) → G K 5 S 5 [(0, vR x0), (1, vI x1), (2, vI x2), (3, vI x3), (4, vI x4)] []) : ∀ (S : St) (x0 : Option Nat) (x1 : Int32) (x2 : Int32) (x4 : Int32) (y0 : Int32), n_X3_isWaiting_b41 k5 S x0 x1 x2 x4 y0 = some (r, S1) → G K 5 S 41 [(0, vR x0), (1, vI x1), (2, vI x2), (4, vI x4)] [vI y0] := by
  intro S x0 x1 x2 x4 y0 hd
  unfold n_X3_isWaiting_b41 at hd
  refine g_istore_n (L' := [(3, vI y0), (0, vR x0), (1, vI x1), (2, vI x2), (4, vI x4)]) C dX3_isWaiting_41 rfl (by decide) rfl ?_
  refine g_iinc (v := x4 + 1) (L' := [(4, vI (x4 + 1)), (3, vI y0), (0, vR x0), (1, vI x1), (2, vI x2)]) C dX3_isWaiting_42 4 rfl rfl (by decide) rfl ?_
  refine g_goto (tgt := 5) C dX3_isWaiting_45 (by decide) ?_
  refine g_sub [2, 3, 4, 1, 0] rfl ?_
  exact h5 _ _ _ _ _ _ hd
theorem w_X3_isWaiting_b36 {K : KT} {r : Int32} {S1 : St} (C : GC K RX3 cX3_isWaiting 5 2 []) (E : EH (kΓ K) (kHI K) (kl K)) (Q : GQ K (some (Jvm.ClassFile.FieldType.boolean)) (.inl (some (vI r))) S1) {k5 : St → Option Nat → Int32 → Int32 → Int32 → Int32 → Option (Int32 × St)} (h5 : ∀ (S : St) (x0 : Option Nat) (x1 : Int32) (x2 : Int32) (x3 : Int32) (x4 : Int32), k5 S x0 x1 x2 x3 x4 = some (r, S1) → G K 5 S 5 [(0, vR x0), (1, vI x1), (2, vI x2), (3, vI x3), (4, vI x4)] []) : ∀ (S : St) (x0 : Option Nat) (x1 : Int32) (x2 : Int32) (x4 : Int32), n_X3_isWaiting_b36 k5 S x0 x1 x2 x4 = some (r, S1) → G K 5 S 36 [(0, vR x0), (1, vI x1), (2, vI x2), (4, vI x4)] [] := by
  intro S x0 x1 x2 x4 hd
  unfold n_X3_isWaiting_b36 at hd
  refine g_iconst (v := 1) C dX3_isWaiting_36 (by decide) ?_
  refine g_goto (tgt := 41) C dX3_isWaiting_37 (by decide) ?_
  refine g_sub [0, 1, 2, 3] rfl ?_
  exact w_X3_isWaiting_b41 C E Q h5 _ _ _ _ _ _ hd
theorem w_X3_isWaiting_b5 {K : KT} {r : Int32} {S1 : St} (C : GC K RX3 cX3_isWaiting 5 2 []) (E : EH (kΓ K) (kHI K) (kl K)) (Q : GQ K (some (Jvm.ClassFile.FieldType.boolean)) (.inl (some (vI r))) S1) : ∀ (n : Nat) (S : St) (x0 : Option Nat) (x1 : Int32) (x2 : Int32) (x3 : Int32) (x4 : Int32), n_X3_isWaiting_b5 n S x0 x1 x2 x3 x4 = some (r, S1) → G K 5 S 5 [(0, vR x0), (1, vI x1), (2, vI x2), (3, vI x3), (4, vI x4)] [] := by
  intro n
  induction n with
  | zero => intro S x0 x1 x2 x3 x4 hd; cases hd
  | succ n ih =>
    intro S x0 x1 x2 x3 x4 hd
    unfold n_X3_isWaiting_b5 at hd
    refine g_iload C dX3_isWaiting_5 4 rfl ?_
    refine g_aload_n C dX3_isWaiting_7 rfl 0 rfl ?_
    obtain ⟨v1, hv1, hd⟩ := Option.bind_eq_some_iff.mp hd
    refine g_fld C gk_X3 (k := 19) (by decide) q1985 (Or.inl rfl) dX3_isWaiting_8 (gR_v hv1) ?_
    refine g_iload_n C dX3_isWaiting_11 rfl 1 rfl ?_
    obtain ⟨v2, hv2, hd⟩ := Option.bind_eq_some_iff.mp hd
    refine g_ialdV C dX3_isWaiting_12 hv2 ?_
    refine g_icmp_ge (tgt := 48) C dX3_isWaiting_13 (by decide) hd (fun hd => ?_) (fun hd => ?_)
    · refine g_iload_n C dX3_isWaiting_48 rfl 3 rfl ?_
      exact g_iret C Q hd dX3_isWaiting_49
    · refine g_iload_n C dX3_isWaiting_16 rfl 3 rfl ?_
      refine g_if_ne (tgt := 36) C dX3_isWaiting_17 (by decide) hd (fun hd => ?_) (fun hd => ?_)
      · refine g_sub [0, 1, 2, 4] rfl ?_
        exact w_X3_isWaiting_b36 C E Q ih _ _ _ _ _ hd
      · refine g_aload_n C dX3_isWaiting_20 rfl 0 rfl ?_
        obtain ⟨v3, hv3, hd⟩ := Option.bind_eq_some_iff.mp hd
        refine g_fld C gk_X3 (k := 20) (by decide) q1986 (Or.inl rfl) dX3_isWaiting_21 (gR_v hv3) ?_
        refine g_bipush (v := 60) C dX3_isWaiting_24 (by decide) ?_
        refine g_iload_n C dX3_isWaiting_26 rfl 1 rfl ?_
        refine g_imul C dX3_isWaiting_27 ?_
        refine g_iload C dX3_isWaiting_28 4 rfl ?_
        refine g_iadd C dX3_isWaiting_30 ?_
        obtain ⟨v4, hv4, hd⟩ := Option.bind_eq_some_iff.mp hd
        refine g_ialdV C dX3_isWaiting_31 hv4 ?_
        refine g_iload_n C dX3_isWaiting_32 rfl 2 rfl ?_
        refine g_icmp_ne (tgt := 40) C dX3_isWaiting_33 (by decide) hd (fun hd => ?_) (fun hd => ?_)
        · refine g_iconst (v := 0) C dX3_isWaiting_40 (by decide) ?_
          refine g_sub [0, 1, 2, 4] rfl ?_
          exact w_X3_isWaiting_b41 C E Q ih _ _ _ _ _ _ hd
        · refine g_sub [0, 1, 2, 4] rfl ?_
          exact w_X3_isWaiting_b36 C E Q ih _ _ _ _ _ hd
theorem w_X3_isWaiting_b0m {K : KT} {r : Int32} {S1 : St} (C : GC K RX3 cX3_isWaiting 5 2 []) (E : EH (kΓ K) (kHI K) (kl K)) (Q : GQ K (some (Jvm.ClassFile.FieldType.boolean)) (.inl (some (vI r))) S1) : ∀ (S : St) (x0 : Option Nat) (x1 : Int32) (x2 : Int32), n_X3_isWaiting S x0 x1 x2 = some (r, S1) → G K 5 S 0 [(0, vR x0), (1, vI x1), (2, vI x2)] [] := by
  intro S x0 x1 x2 hd
  unfold n_X3_isWaiting at hd
  refine g_iconst (v := 0) C dX3_isWaiting_0 (by decide) ?_
  refine g_istore_n (L' := [(3, vI (0 : Int32)), (0, vR x0), (1, vI x1), (2, vI x2)]) C dX3_isWaiting_1 rfl (by decide) rfl ?_
  refine g_iconst (v := 0) C dX3_isWaiting_2 (by decide) ?_
  refine g_istore (L' := [(4, vI (0 : Int32)), (3, vI (0 : Int32)), (0, vR x0), (1, vI x1), (2, vI x2)]) C dX3_isWaiting_3 (by decide) rfl ?_
  refine g_sub [2, 3, 4, 1, 0] rfl ?_
  exact w_X3_isWaiting_b5 C E Q FU _ _ _ _ _ _ hd
theorem m_X3_isWaiting {Γ : GG} {HI : St → Heap → Prop} {l : Launch} (E : EH Γ HI l) {S : St} {a0 : Option Nat} {a1 : Int32} {a2 : Int32} {r : Int32} {S1 : St} (h : n_X3_isWaiting S a0 a1 a2 = some (r, S1)) : MS Γ HI l yX3_isWaiting cX3_isWaiting 5 (some (Jvm.ClassFile.FieldType.boolean)) 2 S [vR a0, vI a1, vI a2] (.inl (some (vI r))) S1 := by
  refine MS_of E.ntr E.hx (by decide +kernel) rfl (Nat.le_of_ble_eq_true rfl) fun K e1 e2 e3 e4 hnm C Q => ?_
  subst e1; subst e2; subst e3
  exact w_X3_isWaiting_b0m C E Q S a0 a1 a2 h

def n_X3_goesOn_b195 (k97 : St → Option Nat → Int32 → Int32 → Int32 → Option (Unit × St)) (S : St) (x0 : Option Nat) (x1 : Int32) (x2 : Int32) (x3 : Int32) : Option (Unit × St) :=
  k97 S x0 x1 x2 (x3 + 1)
def n_X3_goesOn_b150 (k97 : St → Option Nat → Int32 → Int32 → Int32 → Option (Unit × St)) (S : St) (x0 : Option Nat) (x1 : Int32) (x2 : Int32) (x3 : Int32) : Option (Unit × St) :=
  (gR S x0 15 4).bind fun v1 =>
  (aI S v1 1 x3).bind fun v2 =>
  if v2 = 0 then
    n_X3_goesOn_b195 k97 S x0 x1 x2 x3
  else
    gd (grc S x0 15) <|
    bn (n_X3_isWaiting S x0 x1 x3) fun v4 S3 =>
    if v4 = 0 then
      (gR S3 x0 15 20).bind fun v5 =>
      (gR S3 x0 15 19).bind fun v6 =>
      (aI S3 v6 0 x1).bind fun v7 =>
      (sI S3 v5 0 (((60 : Int32) * x1) + v7) x3).bind fun S8 =>
      (gR S8 x0 15 19).bind fun v9 =>
      (aI S8 v9 0 x1).bind fun v10 =>
      (sI S8 v9 0 x1 (v10 + (1 : Int32))).bind fun S11 =>
      n_X3_goesOn_b195 k97 S11 x0 x1 x2 x3
    else
      n_X3_goesOn_b195 k97 S3 x0 x1 x2 x3
def n_X3_goesOn_b256 (k219 : St → Option Nat → Int32 → Int32 → Option (Unit × St)) (S : St) (x0 : Option Nat) (x1 : Int32) (x3 : Int32) : Option (Unit × St) :=
  k219 S x0 x1 (x3 + 1)
def n_X3_goesOn_b219 : Nat → St → Option Nat → Int32 → Int32 → Option (Unit × St)
  | 0 => fun _ _ _ _ => none
  | n + 1 => fun S x0 x1 x3 =>
    (gI S x0 15 2).bind fun v1 =>
    if v1 ≤ x3 then
      some ((), S)
    else
      (gR S x0 15 22).bind fun v2 =>
      (aI S v2 1 x3).bind fun v3 =>
      if v3 = 0 then
        n_X3_goesOn_b256 (n_X3_goesOn_b219 n) S x0 x1 x3
      else
        (gR S x0 15 21).bind fun v4 =>
        (aI S v4 1 (((60 : Int32) * x1) + x3)).bind fun v5 =>
        if v5 = 0 then
          gd (grc S x0 15) <|
          bn (n_X3_adds S x0 x3 (1 : Int32)) fun _ S6 =>
          n_X3_goesOn_b256 (n_X3_goesOn_b219 n) S6 x0 x1 x3
        else
          n_X3_goesOn_b256 (n_X3_goesOn_b219 n) S x0 x1 x3
def n_X3_goesOn_b201 (S : St) (x0 : Option Nat) (x1 : Int32) : Option (Unit × St) :=
  (gR S x0 15 19).bind fun v1 =>
  (aI S v1 0 x1).bind fun v2 =>
  if v2 = 0 then
    (gR S x0 15 18).bind fun v3 =>
    (sI S v3 1 x1 (0 : Int32)).bind fun S4 =>
    n_X3_goesOn_b219 FU S4 x0 x1 (0 : Int32)
  else
    some ((), S)
def n_X3_goesOn_b97 : Nat → St → Option Nat → Int32 → Int32 → Int32 → Option (Unit × St)
  | 0 => fun _ _ _ _ _ => none
  | n + 1 => fun S x0 x1 x2 x3 =>
    (gI S x0 15 2).bind fun v1 =>
    if v1 ≤ x3 then
      n_X3_goesOn_b201 S x0 x1
    else
      (gR S x0 15 3).bind fun v2 =>
      (aI S v2 1 x3).bind fun v3 =>
      if v3 = 0 then
        n_X3_goesOn_b195 (n_X3_goesOn_b97 n) S x0 x1 x2 x3
      else
        (gR S x0 15 5).bind fun v4 =>
        (aI S v4 0 x3).bind fun v5 =>
        if v5 = x2 then
          (gR S x0 15 21).bind fun v6 =>
          (sI S v6 1 (((60 : Int32) * x1) + x3) (1 : Int32)).bind fun S7 =>
          gd (grc S7 x0 15) <|
          bn (n_X3_isKnown S7 x0 x3) fun v9 S8 =>
          if v9 = 0 then
            gd (grc S8 x0 15) <|
            bn (n_X3_adds S8 x0 x3 (1 : Int32)) fun _ S10 =>
            n_X3_goesOn_b150 (n_X3_goesOn_b97 n) S10 x0 x1 x2 x3
          else
            n_X3_goesOn_b150 (n_X3_goesOn_b97 n) S8 x0 x1 x2 x3
        else
          n_X3_goesOn_b195 (n_X3_goesOn_b97 n) S x0 x1 x2 x3
def n_X3_goesOn_b95 (S : St) (x0 : Option Nat) (x1 : Int32) (x2 : Int32) : Option (Unit × St) :=
  n_X3_goesOn_b97 FU S x0 x1 x2 (0 : Int32)
def n_X3_goesOn_b22 : Nat → St → Option Nat → Int32 → Int32 → Int32 → Option (Unit × St)
  | 0 => fun _ _ _ _ _ => none
  | n + 1 => fun S x0 x1 x2 x3 =>
    (gR S x0 15 19).bind fun v1 =>
    (aI S v1 0 x1).bind fun v2 =>
    if v2 ≤ x3 then
      (gR S x0 15 3).bind fun v3 =>
      (aI S v3 1 x2).bind fun v4 =>
      if v4 = 0 then
        n_X3_goesOn_b201 S x0 x1
      else
        (gR S x0 15 13).bind fun v5 =>
        (aI S v5 0 x1).bind fun v6 =>
        if x2 = v6 then
          n_X3_goesOn_b95 S x0 x1 x2
        else
          (gR S x0 15 13).bind fun v7 =>
          (aI S v7 0 x1).bind fun v8 =>
          gd (grc S x0 15) <|
          bn (n_X3_isBelow S x0 x2 v8) fun v10 S9 =>
          if v10 = 0 then
            n_X3_goesOn_b201 S9 x0 x1
          else
            n_X3_goesOn_b95 S9 x0 x1 x2
    else
      (gR S x0 15 20).bind fun v11 =>
      (gR S x0 15 20).bind fun v12 =>
      (aI S v12 0 ((((60 : Int32) * x1) + x3) + (1 : Int32))).bind fun v13 =>
      (sI S v11 0 (((60 : Int32) * x1) + x3) v13).bind fun S14 =>
      (n_X3_goesOn_b22 n) S14 x0 x1 x2 (x3 + 1)
def n_X3_goesOn (S : St) (x0 : Option Nat) (x1 : Int32) : Option (Unit × St) :=
  (gR S x0 15 20).bind fun v1 =>
  (aI S v1 0 ((60 : Int32) * x1)).bind fun v2 =>
  (gR S x0 15 19).bind fun v3 =>
  (aI S v3 0 x1).bind fun v4 =>
  (sI S v3 0 x1 (v4 - (1 : Int32))).bind fun S5 =>
  n_X3_goesOn_b22 FU S5 x0 x1 v2 (0 : Int32)
theorem w_X3_goesOn_b195 {K : KT} {r : Unit} {S1 : St} (C : GC K RX3 cX3_goesOn 4 3 []) (E : EH (kΓ K) (kHI K) (kl K)) (Q : GQ K none (.inl none) S1) {k97 : St → Option Nat → Int32 → Int32 → Int32 → Option (Unit × St)} (h97 : ∀ (S : St) (x0 : Option Nat) (x1 : Int32) (x2 : Int32) (x3 : Int32), k97 S x0 x1 x2 x3 = some (r, S1) → G K 4 S 97 [(0, vR x0), (1, vI x1), (2, vI x2), (3, vI x3)] []) : ∀ (S : St) (x0 : Option Nat) (x1 : Int32) (x2 : Int32) (x3 : Int32), n_X3_goesOn_b195 k97 S x0 x1 x2 x3 = some (r, S1) → G K 4 S 195 [(0, vR x0), (1, vI x1), (2, vI x2), (3, vI x3)] [] := by
  intro S x0 x1 x2 x3 hd
  unfold n_X3_goesOn_b195 at hd
  refine g_iinc (v := x3 + 1) (L' := [(3, vI (x3 + 1)), (0, vR x0), (1, vI x1), (2, vI x2)]) C dX3_goesOn_195 3 rfl rfl (by decide) rfl ?_
  refine g_goto (tgt := 97) C dX3_goesOn_198 (by decide) ?_
  refine g_sub [1, 2, 3, 0] rfl ?_
  exact h97 _ _ _ _ _ hd
theorem w_X3_goesOn_b150 {K : KT} {r : Unit} {S1 : St} (C : GC K RX3 cX3_goesOn 4 3 []) (E : EH (kΓ K) (kHI K) (kl K)) (Q : GQ K none (.inl none) S1) {k97 : St → Option Nat → Int32 → Int32 → Int32 → Option (Unit × St)} (h97 : ∀ (S : St) (x0 : Option Nat) (x1 : Int32) (x2 : Int32) (x3 : Int32), k97 S x0 x1 x2 x3 = some (r, S1) → G K 4 S 97 [(0, vR x0), (1, vI x1), (2, vI x2), (3, vI x3)] []) : ∀ (S : St) (x0 : Option Nat) (x1 : Int32) (x2 : Int32) (x3 : Int32), n_X3_goesOn_b150 k97 S x0 x1 x2 x3 = some (r, S1) → G K 4 S 150 [(0, vR x0), (1, vI x1), (2, vI x2), (3, vI x3)] [] := by
  intro S x0 x1 x2 x3 hd
  unfold n_X3_goesOn_b150 at hd
  refine g_aload_n C dX3_goesOn_150 rfl 0 rfl ?_
  obtain ⟨v1, hv1, hd⟩ := Option.bind_eq_some_iff.mp hd
  refine g_fld C gk_X3 (k := 4) (by decide) q1970 (Or.inl rfl) dX3_goesOn_151 (gR_v hv1) ?_
  refine g_iload_n C dX3_goesOn_154 rfl 3 rfl ?_
  obtain ⟨v2, hv2, hd⟩ := Option.bind_eq_some_iff.mp hd
  refine g_zaldV C dX3_goesOn_155 hv2 ?_
  refine g_if_eq (tgt := 195) C dX3_goesOn_156 (by decide) hd (fun hd => ?_) (fun hd => ?_)
  · refine g_sub [0, 1, 2, 3] rfl ?_
    exact w_X3_goesOn_b195 C E Q h97 _ _ _ _ _ hd
  · refine g_aload_n C dX3_goesOn_159 rfl 0 rfl ?_
    refine g_iload_n C dX3_goesOn_160 rfl 1 rfl ?_
    refine g_iload_n C dX3_goesOn_161 rfl 3 rfl ?_
    obtain ⟨hg, hd⟩ := gd_some hd
    obtain ⟨v4, S3, hc, hd⟩ := bn_some hd
    refine g_cV_v (n := 2) C (gk_X3).1 q2308 q2310 qs82 q108 q2311 (by decide +kernel) (by decide) (by decide) dX3_goesOn_162 (As := [vI x1, vI x3]) (rest := []) rfl rfl (Nat.le_of_ble_eq_true rfl) hg (m_X3_isWaiting E hc) ?_
    refine g_if_ne (tgt := 195) C dX3_goesOn_165 (by decide) hd (fun hd => ?_) (fun hd => ?_)
    · refine g_sub [0, 1, 2, 3] rfl ?_
      exact w_X3_goesOn_b195 C E Q h97 _ _ _ _ _ hd
    · refine g_aload_n C dX3_goesOn_168 rfl 0 rfl ?_
      obtain ⟨v5, hv5, hd⟩ := Option.bind_eq_some_iff.mp hd
      refine g_fld C gk_X3 (k := 20) (by decide) q1986 (Or.inl rfl) dX3_goesOn_169 (gR_v hv5) ?_
      refine g_bipush (v := 60) C dX3_goesOn_172 (by decide) ?_
      refine g_iload_n C dX3_goesOn_174 rfl 1 rfl ?_
      refine g_imul C dX3_goesOn_175 ?_
      refine g_aload_n C dX3_goesOn_176 rfl 0 rfl ?_
      obtain ⟨v6, hv6, hd⟩ := Option.bind_eq_some_iff.mp hd
      refine g_fld C gk_X3 (k := 19) (by decide) q1985 (Or.inl rfl) dX3_goesOn_177 (gR_v hv6) ?_
      refine g_iload_n C dX3_goesOn_180 rfl 1 rfl ?_
      obtain ⟨v7, hv7, hd⟩ := Option.bind_eq_some_iff.mp hd
      refine g_ialdV C dX3_goesOn_181 hv7 ?_
      refine g_iadd C dX3_goesOn_182 ?_
      refine g_iload_n C dX3_goesOn_183 rfl 3 rfl ?_
      obtain ⟨S8, hS8, hd⟩ := Option.bind_eq_some_iff.mp hd
      refine g_iastV C dX3_goesOn_184 hS8 ?_
      refine g_aload_n C dX3_goesOn_185 rfl 0 rfl ?_
      obtain ⟨v9, hv9, hd⟩ := Option.bind_eq_some_iff.mp hd
      refine g_fld C gk_X3 (k := 19) (by decide) q1985 (Or.inl rfl) dX3_goesOn_186 (gR_v hv9) ?_
      refine g_iload_n C dX3_goesOn_189 rfl 1 rfl ?_
      refine g_dup2 C dX3_goesOn_190 rfl rfl ?_
      obtain ⟨v10, hv10, hd⟩ := Option.bind_eq_some_iff.mp hd
      refine g_ialdV C dX3_goesOn_191 hv10 ?_
      refine g_iconst (v := 1) C dX3_goesOn_192 (by decide) ?_
      refine g_iadd C dX3_goesOn_193 ?_
      obtain ⟨S11, hS11, hd⟩ := Option.bind_eq_some_iff.mp hd
      refine g_iastV C dX3_goesOn_194 hS11 ?_
      refine g_sub [0, 1, 2, 3] rfl ?_
      exact w_X3_goesOn_b195 C E Q h97 _ _ _ _ _ hd
theorem w_X3_goesOn_b256 {K : KT} {r : Unit} {S1 : St} (C : GC K RX3 cX3_goesOn 4 3 []) (E : EH (kΓ K) (kHI K) (kl K)) (Q : GQ K none (.inl none) S1) {k219 : St → Option Nat → Int32 → Int32 → Option (Unit × St)} (h219 : ∀ (S : St) (x0 : Option Nat) (x1 : Int32) (x3 : Int32), k219 S x0 x1 x3 = some (r, S1) → G K 4 S 219 [(0, vR x0), (1, vI x1), (3, vI x3)] []) : ∀ (S : St) (x0 : Option Nat) (x1 : Int32) (x3 : Int32), n_X3_goesOn_b256 k219 S x0 x1 x3 = some (r, S1) → G K 4 S 256 [(0, vR x0), (1, vI x1), (3, vI x3)] [] := by
  intro S x0 x1 x3 hd
  unfold n_X3_goesOn_b256 at hd
  refine g_iinc (v := x3 + 1) (L' := [(3, vI (x3 + 1)), (0, vR x0), (1, vI x1)]) C dX3_goesOn_256 2 rfl rfl (by decide) rfl ?_
  refine g_goto (tgt := 219) C dX3_goesOn_259 (by decide) ?_
  refine g_sub [1, 2, 0] rfl ?_
  exact h219 _ _ _ _ hd
theorem w_X3_goesOn_b219 {K : KT} {r : Unit} {S1 : St} (C : GC K RX3 cX3_goesOn 4 3 []) (E : EH (kΓ K) (kHI K) (kl K)) (Q : GQ K none (.inl none) S1) : ∀ (n : Nat) (S : St) (x0 : Option Nat) (x1 : Int32) (x3 : Int32), n_X3_goesOn_b219 n S x0 x1 x3 = some (r, S1) → G K 4 S 219 [(0, vR x0), (1, vI x1), (3, vI x3)] [] := by
  intro n
  induction n with
  | zero => intro S x0 x1 x3 hd; cases hd
  | succ n ih =>
    intro S x0 x1 x3 hd
    unfold n_X3_goesOn_b219 at hd
    refine g_iload_n C dX3_goesOn_219 rfl 2 rfl ?_
    refine g_aload_n C dX3_goesOn_220 rfl 0 rfl ?_
    obtain ⟨v1, hv1, hd⟩ := Option.bind_eq_some_iff.mp hd
    refine g_fld C gk_X3 (k := 2) (by decide) q1968 (Or.inl rfl) dX3_goesOn_221 (gI_v hv1) ?_
    refine g_icmp_ge (tgt := 262) C dX3_goesOn_224 (by decide) hd (fun hd => ?_) (fun hd => ?_)
    · exact g_vret C Q hd dX3_goesOn_262
    · refine g_aload_n C dX3_goesOn_227 rfl 0 rfl ?_
      obtain ⟨v2, hv2, hd⟩ := Option.bind_eq_some_iff.mp hd
      refine g_fld C gk_X3 (k := 22) (by decide) q1988 (Or.inl rfl) dX3_goesOn_228 (gR_v hv2) ?_
      refine g_iload_n C dX3_goesOn_231 rfl 2 rfl ?_
      obtain ⟨v3, hv3, hd⟩ := Option.bind_eq_some_iff.mp hd
      refine g_zaldV C dX3_goesOn_232 hv3 ?_
      refine g_if_eq (tgt := 256) C dX3_goesOn_233 (by decide) hd (fun hd => ?_) (fun hd => ?_)
      · refine g_sub [0, 1, 2] rfl ?_
        exact w_X3_goesOn_b256 C E Q ih _ _ _ _ hd
      · refine g_aload_n C dX3_goesOn_236 rfl 0 rfl ?_
        obtain ⟨v4, hv4, hd⟩ := Option.bind_eq_some_iff.mp hd
        refine g_fld C gk_X3 (k := 21) (by decide) q1987 (Or.inl rfl) dX3_goesOn_237 (gR_v hv4) ?_
        refine g_bipush (v := 60) C dX3_goesOn_240 (by decide) ?_
        refine g_iload_n C dX3_goesOn_242 rfl 1 rfl ?_
        refine g_imul C dX3_goesOn_243 ?_
        refine g_iload_n C dX3_goesOn_244 rfl 2 rfl ?_
        refine g_iadd C dX3_goesOn_245 ?_
        obtain ⟨v5, hv5, hd⟩ := Option.bind_eq_some_iff.mp hd
        refine g_zaldV C dX3_goesOn_246 hv5 ?_
        refine g_if_ne (tgt := 256) C dX3_goesOn_247 (by decide) hd (fun hd => ?_) (fun hd => ?_)
        · refine g_sub [0, 1, 2] rfl ?_
          exact w_X3_goesOn_b256 C E Q ih _ _ _ _ hd
        · refine g_aload_n C dX3_goesOn_250 rfl 0 rfl ?_
          refine g_iload_n C dX3_goesOn_251 rfl 2 rfl ?_
          refine g_iconst (v := 1) C dX3_goesOn_252 (by decide) ?_
          obtain ⟨hg, hd⟩ := gd_some hd
          obtain ⟨_, S6, hc, hd⟩ := bn_some hd
          refine g_cV_n (n := 2) C (gk_X3).1 q2183 q2185 qs63 q108 q2186 (by decide +kernel) (by decide) (by decide) dX3_goesOn_253 (As := [vI x3, vI (1 : Int32)]) (rest := []) rfl rfl (Nat.le_of_ble_eq_true rfl) hg (m_X3_adds E hc) ?_
          refine g_sub [0, 1, 2] rfl ?_
          exact w_X3_goesOn_b256 C E Q ih _ _ _ _ hd
theorem w_X3_goesOn_b201 {K : KT} {r : Unit} {S1 : St} (C : GC K RX3 cX3_goesOn 4 3 []) (E : EH (kΓ K) (kHI K) (kl K)) (Q : GQ K none (.inl none) S1) : ∀ (S : St) (x0 : Option Nat) (x1 : Int32), n_X3_goesOn_b201 S x0 x1 = some (r, S1) → G K 4 S 201 [(0, vR x0), (1, vI x1)] [] := by
  intro S x0 x1 hd
  unfold n_X3_goesOn_b201 at hd
  refine g_aload_n C dX3_goesOn_201 rfl 0 rfl ?_
  obtain ⟨v1, hv1, hd⟩ := Option.bind_eq_some_iff.mp hd
  refine g_fld C gk_X3 (k := 19) (by decide) q1985 (Or.inl rfl) dX3_goesOn_202 (gR_v hv1) ?_
  refine g_iload_n C dX3_goesOn_205 rfl 1 rfl ?_
  obtain ⟨v2, hv2, hd⟩ := Option.bind_eq_some_iff.mp hd
  refine g_ialdV C dX3_goesOn_206 hv2 ?_
  refine g_if_ne (tgt := 262) C dX3_goesOn_207 (by decide) hd (fun hd => ?_) (fun hd => ?_)
  · exact g_vret C Q hd dX3_goesOn_262
  · refine g_aload_n C dX3_goesOn_210 rfl 0 rfl ?_
    obtain ⟨v3, hv3, hd⟩ := Option.bind_eq_some_iff.mp hd
    refine g_fld C gk_X3 (k := 18) (by decide) q1984 (Or.inl rfl) dX3_goesOn_211 (gR_v hv3) ?_
    refine g_iload_n C dX3_goesOn_214 rfl 1 rfl ?_
    refine g_iconst (v := 0) C dX3_goesOn_215 (by decide) ?_
    obtain ⟨S4, hS4, hd⟩ := Option.bind_eq_some_iff.mp hd
    refine g_zastV C dX3_goesOn_216 hS4 ?_
    refine g_iconst (v := 0) C dX3_goesOn_217 (by decide) ?_
    refine g_istore_n (L' := [(3, vI (0 : Int32)), (0, vR x0), (1, vI x1)]) C dX3_goesOn_218 rfl (by decide) rfl ?_
    refine g_sub [1, 2, 0] rfl ?_
    exact w_X3_goesOn_b219 C E Q FU _ _ _ _ hd
theorem w_X3_goesOn_b97 {K : KT} {r : Unit} {S1 : St} (C : GC K RX3 cX3_goesOn 4 3 []) (E : EH (kΓ K) (kHI K) (kl K)) (Q : GQ K none (.inl none) S1) : ∀ (n : Nat) (S : St) (x0 : Option Nat) (x1 : Int32) (x2 : Int32) (x3 : Int32), n_X3_goesOn_b97 n S x0 x1 x2 x3 = some (r, S1) → G K 4 S 97 [(0, vR x0), (1, vI x1), (2, vI x2), (3, vI x3)] [] := by
  intro n
  induction n with
  | zero => intro S x0 x1 x2 x3 hd; cases hd
  | succ n ih =>
    intro S x0 x1 x2 x3 hd
    unfold n_X3_goesOn_b97 at hd
    refine g_iload_n C dX3_goesOn_97 rfl 3 rfl ?_
    refine g_aload_n C dX3_goesOn_98 rfl 0 rfl ?_
    obtain ⟨v1, hv1, hd⟩ := Option.bind_eq_some_iff.mp hd
    refine g_fld C gk_X3 (k := 2) (by decide) q1968 (Or.inl rfl) dX3_goesOn_99 (gI_v hv1) ?_
    refine g_icmp_ge (tgt := 201) C dX3_goesOn_102 (by decide) hd (fun hd => ?_) (fun hd => ?_)
    · refine g_sub [0, 1] rfl ?_
      exact w_X3_goesOn_b201 C E Q _ _ _ hd
    · refine g_aload_n C dX3_goesOn_105 rfl 0 rfl ?_
      obtain ⟨v2, hv2, hd⟩ := Option.bind_eq_some_iff.mp hd
      refine g_fld C gk_X3 (k := 3) (by decide) q1969 (Or.inl rfl) dX3_goesOn_106 (gR_v hv2) ?_
      refine g_iload_n C dX3_goesOn_109 rfl 3 rfl ?_
      obtain ⟨v3, hv3, hd⟩ := Option.bind_eq_some_iff.mp hd
      refine g_zaldV C dX3_goesOn_110 hv3 ?_
      refine g_if_eq (tgt := 195) C dX3_goesOn_111 (by decide) hd (fun hd => ?_) (fun hd => ?_)
      · refine g_sub [0, 1, 2, 3] rfl ?_
        exact w_X3_goesOn_b195 C E Q ih _ _ _ _ _ hd
      · refine g_aload_n C dX3_goesOn_114 rfl 0 rfl ?_
        obtain ⟨v4, hv4, hd⟩ := Option.bind_eq_some_iff.mp hd
        refine g_fld C gk_X3 (k := 5) (by decide) q1971 (Or.inl rfl) dX3_goesOn_115 (gR_v hv4) ?_
        refine g_iload_n C dX3_goesOn_118 rfl 3 rfl ?_
        obtain ⟨v5, hv5, hd⟩ := Option.bind_eq_some_iff.mp hd
        refine g_ialdV C dX3_goesOn_119 hv5 ?_
        refine g_iload_n C dX3_goesOn_120 rfl 2 rfl ?_
        refine g_icmp_ne (tgt := 195) C dX3_goesOn_121 (by decide) hd (fun hd => ?_) (fun hd => ?_)
        · refine g_sub [0, 1, 2, 3] rfl ?_
          exact w_X3_goesOn_b195 C E Q ih _ _ _ _ _ hd
        · refine g_aload_n C dX3_goesOn_124 rfl 0 rfl ?_
          obtain ⟨v6, hv6, hd⟩ := Option.bind_eq_some_iff.mp hd
          refine g_fld C gk_X3 (k := 21) (by decide) q1987 (Or.inl rfl) dX3_goesOn_125 (gR_v hv6) ?_
          refine g_bipush (v := 60) C dX3_goesOn_128 (by decide) ?_
          refine g_iload_n C dX3_goesOn_130 rfl 1 rfl ?_
          refine g_imul C dX3_goesOn_131 ?_
          refine g_iload_n C dX3_goesOn_132 rfl 3 rfl ?_
          refine g_iadd C dX3_goesOn_133 ?_
          refine g_iconst (v := 1) C dX3_goesOn_134 (by decide) ?_
          obtain ⟨S7, hS7, hd⟩ := Option.bind_eq_some_iff.mp hd
          refine g_zastV C dX3_goesOn_135 hS7 ?_
          refine g_aload_n C dX3_goesOn_136 rfl 0 rfl ?_
          refine g_iload_n C dX3_goesOn_137 rfl 3 rfl ?_
          obtain ⟨hg, hd⟩ := gd_some hd
          obtain ⟨v9, S8, hc, hd⟩ := bn_some hd
          refine g_cV_v (n := 1) C (gk_X3).1 q2304 q2306 qs81 q108 q2307 (by decide +kernel) (by decide) (by decide) dX3_goesOn_138 (As := [vI x3]) (rest := []) rfl rfl (Nat.le_of_ble_eq_true rfl) hg (m_X3_isKnown E hc) ?_
          refine g_if_ne (tgt := 150) C dX3_goesOn_141 (by decide) hd (fun hd => ?_) (fun hd => ?_)
          · refine g_sub [0, 1, 2, 3] rfl ?_
            exact w_X3_goesOn_b150 C E Q ih _ _ _ _ _ hd
          · refine g_aload_n C dX3_goesOn_144 rfl 0 rfl ?_
            refine g_iload_n C dX3_goesOn_145 rfl 3 rfl ?_
            refine g_iconst (v := 1) C dX3_goesOn_146 (by decide) ?_
            obtain ⟨hg, hd⟩ := gd_some hd
            obtain ⟨_, S10, hc, hd⟩ := bn_some hd
            refine g_cV_n (n := 2) C (gk_X3).1 q2183 q2185 qs63 q108 q2186 (by decide +kernel) (by decide) (by decide) dX3_goesOn_147 (As := [vI x3, vI (1 : Int32)]) (rest := []) rfl rfl (Nat.le_of_ble_eq_true rfl) hg (m_X3_adds E hc) ?_
            refine g_sub [0, 1, 2, 3] rfl ?_
            exact w_X3_goesOn_b150 C E Q ih _ _ _ _ _ hd
theorem w_X3_goesOn_b95 {K : KT} {r : Unit} {S1 : St} (C : GC K RX3 cX3_goesOn 4 3 []) (E : EH (kΓ K) (kHI K) (kl K)) (Q : GQ K none (.inl none) S1) : ∀ (S : St) (x0 : Option Nat) (x1 : Int32) (x2 : Int32), n_X3_goesOn_b95 S x0 x1 x2 = some (r, S1) → G K 4 S 95 [(0, vR x0), (1, vI x1), (2, vI x2)] [] := by
  intro S x0 x1 x2 hd
  unfold n_X3_goesOn_b95 at hd
  refine g_iconst (v := 0) C dX3_goesOn_95 (by decide) ?_
  refine g_istore_n (L' := [(3, vI (0 : Int32)), (0, vR x0), (1, vI x1), (2, vI x2)]) C dX3_goesOn_96 rfl (by decide) rfl ?_
  refine g_sub [1, 2, 3, 0] rfl ?_
  exact w_X3_goesOn_b97 C E Q FU _ _ _ _ _ hd
theorem w_X3_goesOn_b22 {K : KT} {r : Unit} {S1 : St} (C : GC K RX3 cX3_goesOn 4 3 []) (E : EH (kΓ K) (kHI K) (kl K)) (Q : GQ K none (.inl none) S1) : ∀ (n : Nat) (S : St) (x0 : Option Nat) (x1 : Int32) (x2 : Int32) (x3 : Int32), n_X3_goesOn_b22 n S x0 x1 x2 x3 = some (r, S1) → G K 4 S 22 [(0, vR x0), (1, vI x1), (2, vI x2), (3, vI x3)] [] := by
  intro n
  induction n with
  | zero => intro S x0 x1 x2 x3 hd; cases hd
  | succ n ih =>
    intro S x0 x1 x2 x3 hd
    unfold n_X3_goesOn_b22 at hd
    refine g_iload_n C dX3_goesOn_22 rfl 3 rfl ?_
    refine g_aload_n C dX3_goesOn_23 rfl 0 rfl ?_
    obtain ⟨v1, hv1, hd⟩ := Option.bind_eq_some_iff.mp hd
    refine g_fld C gk_X3 (k := 19) (by decide) q1985 (Or.inl rfl) dX3_goesOn_24 (gR_v hv1) ?_
    refine g_iload_n C dX3_goesOn_27 rfl 1 rfl ?_
    obtain ⟨v2, hv2, hd⟩ := Option.bind_eq_some_iff.mp hd
    refine g_ialdV C dX3_goesOn_28 hv2 ?_
    refine g_icmp_ge (tgt := 62) C dX3_goesOn_29 (by decide) hd (fun hd => ?_) (fun hd => ?_)
    · refine g_aload_n C dX3_goesOn_62 rfl 0 rfl ?_
      obtain ⟨v3, hv3, hd⟩ := Option.bind_eq_some_iff.mp hd
      refine g_fld C gk_X3 (k := 3) (by decide) q1969 (Or.inl rfl) dX3_goesOn_63 (gR_v hv3) ?_
      refine g_iload_n C dX3_goesOn_66 rfl 2 rfl ?_
      obtain ⟨v4, hv4, hd⟩ := Option.bind_eq_some_iff.mp hd
      refine g_zaldV C dX3_goesOn_67 hv4 ?_
      refine g_if_eq (tgt := 201) C dX3_goesOn_68 (by decide) hd (fun hd => ?_) (fun hd => ?_)
      · refine g_sub [0, 1] rfl ?_
        exact w_X3_goesOn_b201 C E Q _ _ _ hd
      · refine g_iload_n C dX3_goesOn_71 rfl 2 rfl ?_
        refine g_aload_n C dX3_goesOn_72 rfl 0 rfl ?_
        obtain ⟨v5, hv5, hd⟩ := Option.bind_eq_some_iff.mp hd
        refine g_fld C gk_X3 (k := 13) (by decide) q1979 (Or.inl rfl) dX3_goesOn_73 (gR_v hv5) ?_
        refine g_iload_n C dX3_goesOn_76 rfl 1 rfl ?_
        obtain ⟨v6, hv6, hd⟩ := Option.bind_eq_some_iff.mp hd
        refine g_ialdV C dX3_goesOn_77 hv6 ?_
        refine g_icmp_eq (tgt := 95) C dX3_goesOn_78 (by decide) hd (fun hd => ?_) (fun hd => ?_)
        · refine g_sub [0, 1, 2] rfl ?_
          exact w_X3_goesOn_b95 C E Q _ _ _ _ hd
        · refine g_aload_n C dX3_goesOn_81 rfl 0 rfl ?_
          refine g_iload_n C dX3_goesOn_82 rfl 2 rfl ?_
          refine g_aload_n C dX3_goesOn_83 rfl 0 rfl ?_
          obtain ⟨v7, hv7, hd⟩ := Option.bind_eq_some_iff.mp hd
          refine g_fld C gk_X3 (k := 13) (by decide) q1979 (Or.inl rfl) dX3_goesOn_84 (gR_v hv7) ?_
          refine g_iload_n C dX3_goesOn_87 rfl 1 rfl ?_
          obtain ⟨v8, hv8, hd⟩ := Option.bind_eq_some_iff.mp hd
          refine g_ialdV C dX3_goesOn_88 hv8 ?_
          obtain ⟨hg, hd⟩ := gd_some hd
          obtain ⟨v10, S9, hc, hd⟩ := bn_some hd
          refine g_cV_v (n := 2) C (gk_X3).1 q2139 q2141 qs56 q108 q2142 (by decide +kernel) (by decide) (by decide) dX3_goesOn_89 (As := [vI x2, vI v8]) (rest := []) rfl rfl (Nat.le_of_ble_eq_true rfl) hg (m_X3_isBelow E hc) ?_
          refine g_if_eq (tgt := 201) C dX3_goesOn_92 (by decide) hd (fun hd => ?_) (fun hd => ?_)
          · refine g_sub [0, 1] rfl ?_
            exact w_X3_goesOn_b201 C E Q _ _ _ hd
          · refine g_sub [0, 1, 2] rfl ?_
            exact w_X3_goesOn_b95 C E Q _ _ _ _ hd
    · refine g_aload_n C dX3_goesOn_32 rfl 0 rfl ?_
      obtain ⟨v11, hv11, hd⟩ := Option.bind_eq_some_iff.mp hd
      refine g_fld C gk_X3 (k := 20) (by decide) q1986 (Or.inl rfl) dX3_goesOn_33 (gR_v hv11) ?_
      refine g_bipush (v := 60) C dX3_goesOn_36 (by decide) ?_
      refine g_iload_n C dX3_goesOn_38 rfl 1 rfl ?_
      refine g_imul C dX3_goesOn_39 ?_
      refine g_iload_n C dX3_goesOn_40 rfl 3 rfl ?_
      refine g_iadd C dX3_goesOn_41 ?_
      refine g_aload_n C dX3_goesOn_42 rfl 0 rfl ?_
      obtain ⟨v12, hv12, hd⟩ := Option.bind_eq_some_iff.mp hd
      refine g_fld C gk_X3 (k := 20) (by decide) q1986 (Or.inl rfl) dX3_goesOn_43 (gR_v hv12) ?_
      refine g_bipush (v := 60) C dX3_goesOn_46 (by decide) ?_
      refine g_iload_n C dX3_goesOn_48 rfl 1 rfl ?_
      refine g_imul C dX3_goesOn_49 ?_
      refine g_iload_n C dX3_goesOn_50 rfl 3 rfl ?_
      refine g_iadd C dX3_goesOn_51 ?_
      refine g_iconst (v := 1) C dX3_goesOn_52 (by decide) ?_
      refine g_iadd C dX3_goesOn_53 ?_
      obtain ⟨v13, hv13, hd⟩ := Option.bind_eq_some_iff.mp hd
      refine g_ialdV C dX3_goesOn_54 hv13 ?_
      obtain ⟨S14, hS14, hd⟩ := Option.bind_eq_some_iff.mp hd
      refine g_iastV C dX3_goesOn_55 hS14 ?_
      refine g_iinc (v := x3 + 1) (L' := [(3, vI (x3 + 1)), (0, vR x0), (1, vI x1), (2, vI x2)]) C dX3_goesOn_56 3 rfl rfl (by decide) rfl ?_
      refine g_goto (tgt := 22) C dX3_goesOn_59 (by decide) ?_
      refine g_sub [1, 2, 3, 0] rfl ?_
      exact ih _ _ _ _ _ hd
theorem w_X3_goesOn_b0m {K : KT} {r : Unit} {S1 : St} (C : GC K RX3 cX3_goesOn 4 3 []) (E : EH (kΓ K) (kHI K) (kl K)) (Q : GQ K none (.inl none) S1) : ∀ (S : St) (x0 : Option Nat) (x1 : Int32), n_X3_goesOn S x0 x1 = some (r, S1) → G K 4 S 0 [(0, vR x0), (1, vI x1)] [] := by
  intro S x0 x1 hd
  unfold n_X3_goesOn at hd
  refine g_aload_n C dX3_goesOn_0 rfl 0 rfl ?_
  obtain ⟨v1, hv1, hd⟩ := Option.bind_eq_some_iff.mp hd
  refine g_fld C gk_X3 (k := 20) (by decide) q1986 (Or.inl rfl) dX3_goesOn_1 (gR_v hv1) ?_
  refine g_bipush (v := 60) C dX3_goesOn_4 (by decide) ?_
  refine g_iload_n C dX3_goesOn_6 rfl 1 rfl ?_
  refine g_imul C dX3_goesOn_7 ?_
  obtain ⟨v2, hv2, hd⟩ := Option.bind_eq_some_iff.mp hd
  refine g_ialdV C dX3_goesOn_8 hv2 ?_
  refine g_istore_n (L' := [(2, vI v2), (0, vR x0), (1, vI x1)]) C dX3_goesOn_9 rfl (by decide) rfl ?_
  refine g_aload_n C dX3_goesOn_10 rfl 1 rfl ?_
  obtain ⟨v3, hv3, hd⟩ := Option.bind_eq_some_iff.mp hd
  refine g_fld C gk_X3 (k := 19) (by decide) q1985 (Or.inl rfl) dX3_goesOn_11 (gR_v hv3) ?_
  refine g_iload_n C dX3_goesOn_14 rfl 2 rfl ?_
  refine g_dup2 C dX3_goesOn_15 rfl rfl ?_
  obtain ⟨v4, hv4, hd⟩ := Option.bind_eq_some_iff.mp hd
  refine g_ialdV C dX3_goesOn_16 hv4 ?_
  refine g_iconst (v := 1) C dX3_goesOn_17 (by decide) ?_
  refine g_isub C dX3_goesOn_18 ?_
  obtain ⟨S5, hS5, hd⟩ := Option.bind_eq_some_iff.mp hd
  refine g_iastV C dX3_goesOn_19 hS5 ?_
  refine g_iconst (v := 0) C dX3_goesOn_20 (by decide) ?_
  refine g_istore_n (L' := [(3, vI (0 : Int32)), (2, vI v2), (0, vR x0), (1, vI x1)]) C dX3_goesOn_21 rfl (by decide) rfl ?_
  refine g_sub [2, 3, 1, 0] rfl ?_
  exact w_X3_goesOn_b22 C E Q FU _ _ _ _ _ hd
theorem m_X3_goesOn {Γ : GG} {HI : St → Heap → Prop} {l : Launch} (E : EH Γ HI l) {S : St} {a0 : Option Nat} {a1 : Int32} {r : Unit} {S1 : St} (h : n_X3_goesOn S a0 a1 = some (r, S1)) : MS Γ HI l yX3_goesOn cX3_goesOn 4 none 3 S [vR a0, vI a1] (.inl none) S1 := by
  refine MS_of E.ntr E.hx (by decide +kernel) rfl (Nat.le_of_ble_eq_true rfl) fun K e1 e2 e3 e4 hnm C Q => ?_
  subst e1; subst e2; subst e3
  exact w_X3_goesOn_b0m C E Q S a0 a1 h

def n_X3_places (S : St) (x0 : Option Nat) (x1 : Int32) : Option (Unit × St) :=
  (gR S x0 15 22).bind fun v1 =>
  (sI S v1 1 x1 (1 : Int32)).bind fun S2 =>
  (gR S2 x0 15 23).bind fun v3 =>
  (gR S2 x0 15 5).bind fun v4 =>
  (aI S2 v4 0 x1).bind fun v5 =>
  (sI S2 v3 0 x1 v5).bind fun S6 =>
  (gR S6 x0 15 24).bind fun v7 =>
  (gR S6 x0 15 6).bind fun v8 =>
  (aI S6 v8 2 x1).bind fun v9 =>
  (sI S6 v7 2 x1 v9).bind fun S10 =>
  some ((), S10)
theorem w_X3_places_b0m {K : KT} {r : Unit} {S1 : St} (C : GC K RX3 cX3_places 2 2 []) (E : EH (kΓ K) (kHI K) (kl K)) (Q : GQ K none (.inl none) S1) : ∀ (S : St) (x0 : Option Nat) (x1 : Int32), n_X3_places S x0 x1 = some (r, S1) → G K 2 S 0 [(0, vR x0), (1, vI x1)] [] := by
  intro S x0 x1 hd
  unfold n_X3_places at hd
  refine g_aload_n C dX3_places_0 rfl 0 rfl ?_
  obtain ⟨v1, hv1, hd⟩ := Option.bind_eq_some_iff.mp hd
  refine g_fld C gk_X3 (k := 22) (by decide) q1988 (Or.inl rfl) dX3_places_1 (gR_v hv1) ?_
  refine g_iload_n C dX3_places_4 rfl 1 rfl ?_
  refine g_iconst (v := 1) C dX3_places_5 (by decide) ?_
  obtain ⟨S2, hS2, hd⟩ := Option.bind_eq_some_iff.mp hd
  refine g_zastV C dX3_places_6 hS2 ?_
  refine g_aload_n C dX3_places_7 rfl 0 rfl ?_
  obtain ⟨v3, hv3, hd⟩ := Option.bind_eq_some_iff.mp hd
  refine g_fld C gk_X3 (k := 23) (by decide) q1989 (Or.inl rfl) dX3_places_8 (gR_v hv3) ?_
  refine g_iload_n C dX3_places_11 rfl 1 rfl ?_
  refine g_aload_n C dX3_places_12 rfl 0 rfl ?_
  obtain ⟨v4, hv4, hd⟩ := Option.bind_eq_some_iff.mp hd
  refine g_fld C gk_X3 (k := 5) (by decide) q1971 (Or.inl rfl) dX3_places_13 (gR_v hv4) ?_
  refine g_iload_n C dX3_places_16 rfl 1 rfl ?_
  obtain ⟨v5, hv5, hd⟩ := Option.bind_eq_some_iff.mp hd
  refine g_ialdV C dX3_places_17 hv5 ?_
  obtain ⟨S6, hS6, hd⟩ := Option.bind_eq_some_iff.mp hd
  refine g_iastV C dX3_places_18 hS6 ?_
  refine g_aload_n C dX3_places_19 rfl 0 rfl ?_
  obtain ⟨v7, hv7, hd⟩ := Option.bind_eq_some_iff.mp hd
  refine g_fld C gk_X3 (k := 24) (by decide) q1990 (Or.inl rfl) dX3_places_20 (gR_v hv7) ?_
  refine g_iload_n C dX3_places_23 rfl 1 rfl ?_
  refine g_aload_n C dX3_places_24 rfl 0 rfl ?_
  obtain ⟨v8, hv8, hd⟩ := Option.bind_eq_some_iff.mp hd
  refine g_fld C gk_X3 (k := 6) (by decide) q1972 (Or.inl rfl) dX3_places_25 (gR_v hv8) ?_
  refine g_iload_n C dX3_places_28 rfl 1 rfl ?_
  obtain ⟨v9, hv9, hd⟩ := Option.bind_eq_some_iff.mp hd
  refine g_caldV C dX3_places_29 hv9 ?_
  obtain ⟨S10, hS10, hd⟩ := Option.bind_eq_some_iff.mp hd
  refine g_castV C dX3_places_30 hS10 ?_
  exact g_vret C Q hd dX3_places_31
theorem m_X3_places {Γ : GG} {HI : St → Heap → Prop} {l : Launch} (E : EH Γ HI l) {S : St} {a0 : Option Nat} {a1 : Int32} {r : Unit} {S1 : St} (h : n_X3_places S a0 a1 = some (r, S1)) : MS Γ HI l yX3_places cX3_places 2 none 2 S [vR a0, vI a1] (.inl none) S1 := by
  refine MS_of E.ntr E.hx (by decide +kernel) rfl (Nat.le_of_ble_eq_true rfl) fun K e1 e2 e3 e4 hnm C Q => ?_
  subst e1; subst e2; subst e3
  exact w_X3_places_b0m C E Q S a0 a1 h

def n_X3_kills_b39 (k2 : St → Option Nat → Int32 → Int32 → Option (Unit × St)) (S : St) (x0 : Option Nat) (x1 : Int32) (x2 : Int32) (y0 : Int32) (y1 : Int32) (y2 : Option Nat) : Option (Unit × St) :=
  (sI S y2 1 y1 y0).bind fun S1 =>
  k2 S1 x0 x1 (x2 + 1)
def n_X3_kills_b34 (k2 : St → Option Nat → Int32 → Int32 → Option (Unit × St)) (S : St) (x0 : Option Nat) (x1 : Int32) (x2 : Int32) (y0 : Int32) (y1 : Option Nat) : Option (Unit × St) :=
  n_X3_kills_b39 k2 S x0 x1 x2 (1 : Int32) y0 y1
def n_X3_kills_b2 : Nat → St → Option Nat → Int32 → Int32 → Option (Unit × St)
  | 0 => fun _ _ _ _ => none
  | n + 1 => fun S x0 x1 x2 =>
    (gI S x0 15 37).bind fun v1 =>
    if v1 ≤ x2 then
      some ((), S)
    else
      (gR S x0 15 40).bind fun v2 =>
      (gR S x0 15 40).bind fun v3 =>
      (aI S v3 1 x2).bind fun v4 =>
      if v4 = 0 then
        (gR S x0 15 39).bind fun v5 =>
        (aI S v5 0 x2).bind fun v6 =>
        if v6 = x1 then
          n_X3_kills_b34 (n_X3_kills_b2 n) S x0 x1 x2 x2 v2
        else
          n_X3_kills_b39 (n_X3_kills_b2 n) S x0 x1 x2 (0 : Int32) x2 v2
      else
        n_X3_kills_b34 (n_X3_kills_b2 n) S x0 x1 x2 x2 v2
def n_X3_kills (S : St) (x0 : Option Nat) (x1 : Int32) : Option (Unit × St) :=
  n_X3_kills_b2 FU S x0 x1 (0 : Int32)
theorem w_X3_kills_b39 {K : KT} {r : Unit} {S1 : St} (C : GC K RX3 cX3_kills 3 2 []) (E : EH (kΓ K) (kHI K) (kl K)) (Q : GQ K none (.inl none) S1) {k2 : St → Option Nat → Int32 → Int32 → Option (Unit × St)} (h2 : ∀ (S : St) (x0 : Option Nat) (x1 : Int32) (x2 : Int32), k2 S x0 x1 x2 = some (r, S1) → G K 3 S 2 [(0, vR x0), (1, vI x1), (2, vI x2)] []) : ∀ (S : St) (x0 : Option Nat) (x1 : Int32) (x2 : Int32) (y0 : Int32) (y1 : Int32) (y2 : Option Nat), n_X3_kills_b39 k2 S x0 x1 x2 y0 y1 y2 = some (r, S1) → G K 3 S 39 [(0, vR x0), (1, vI x1), (2, vI x2)] [vI y0, vI y1, vR y2] := by
  intro S x0 x1 x2 y0 y1 y2 hd
  unfold n_X3_kills_b39 at hd
  obtain ⟨S1, hS1, hd⟩ := Option.bind_eq_some_iff.mp hd
  refine g_zastV C dX3_kills_39 hS1 ?_
  refine g_iinc (v := x2 + 1) (L' := [(2, vI (x2 + 1)), (0, vR x0), (1, vI x1)]) C dX3_kills_40 2 rfl rfl (by decide) rfl ?_
  refine g_goto (tgt := 2) C dX3_kills_43 (by decide) ?_
  refine g_sub [1, 2, 0] rfl ?_
  exact h2 _ _ _ _ hd
theorem w_X3_kills_b34 {K : KT} {r : Unit} {S1 : St} (C : GC K RX3 cX3_kills 3 2 []) (E : EH (kΓ K) (kHI K) (kl K)) (Q : GQ K none (.inl none) S1) {k2 : St → Option Nat → Int32 → Int32 → Option (Unit × St)} (h2 : ∀ (S : St) (x0 : Option Nat) (x1 : Int32) (x2 : Int32), k2 S x0 x1 x2 = some (r, S1) → G K 3 S 2 [(0, vR x0), (1, vI x1), (2, vI x2)] []) : ∀ (S : St) (x0 : Option Nat) (x1 : Int32) (x2 : Int32) (y0 : Int32) (y1 : Option Nat), n_X3_kills_b34 k2 S x0 x1 x2 y0 y1 = some (r, S1) → G K 3 S 34 [(0, vR x0), (1, vI x1), (2, vI x2)] [vI y0, vR y1] := by
  intro S x0 x1 x2 y0 y1 hd
  unfold n_X3_kills_b34 at hd
  refine g_iconst (v := 1) C dX3_kills_34 (by decide) ?_
  refine g_goto (tgt := 39) C dX3_kills_35 (by decide) ?_
  refine g_sub [0, 1, 2] rfl ?_
  exact w_X3_kills_b39 C E Q h2 _ _ _ _ _ _ _ hd
theorem w_X3_kills_b2 {K : KT} {r : Unit} {S1 : St} (C : GC K RX3 cX3_kills 3 2 []) (E : EH (kΓ K) (kHI K) (kl K)) (Q : GQ K none (.inl none) S1) : ∀ (n : Nat) (S : St) (x0 : Option Nat) (x1 : Int32) (x2 : Int32), n_X3_kills_b2 n S x0 x1 x2 = some (r, S1) → G K 3 S 2 [(0, vR x0), (1, vI x1), (2, vI x2)] [] := by
  intro n
  induction n with
  | zero => intro S x0 x1 x2 hd; cases hd
  | succ n ih =>
    intro S x0 x1 x2 hd
    unfold n_X3_kills_b2 at hd
    refine g_iload_n C dX3_kills_2 rfl 2 rfl ?_
    refine g_aload_n C dX3_kills_3 rfl 0 rfl ?_
    obtain ⟨v1, hv1, hd⟩ := Option.bind_eq_some_iff.mp hd
    refine g_fld C gk_X3 (k := 37) (by decide) q2003 (Or.inl rfl) dX3_kills_4 (gI_v hv1) ?_
    refine g_icmp_ge (tgt := 46) C dX3_kills_7 (by decide) hd (fun hd => ?_) (fun hd => ?_)
    · exact g_vret C Q hd dX3_kills_46
    · refine g_aload_n C dX3_kills_10 rfl 0 rfl ?_
      obtain ⟨v2, hv2, hd⟩ := Option.bind_eq_some_iff.mp hd
      refine g_fld C gk_X3 (k := 40) (by decide) q2006 (Or.inl rfl) dX3_kills_11 (gR_v hv2) ?_
      refine g_iload_n C dX3_kills_14 rfl 2 rfl ?_
      refine g_aload_n C dX3_kills_15 rfl 0 rfl ?_
      obtain ⟨v3, hv3, hd⟩ := Option.bind_eq_some_iff.mp hd
      refine g_fld C gk_X3 (k := 40) (by decide) q2006 (Or.inl rfl) dX3_kills_16 (gR_v hv3) ?_
      refine g_iload_n C dX3_kills_19 rfl 2 rfl ?_
      obtain ⟨v4, hv4, hd⟩ := Option.bind_eq_some_iff.mp hd
      refine g_zaldV C dX3_kills_20 hv4 ?_
      refine g_if_ne (tgt := 34) C dX3_kills_21 (by decide) hd (fun hd => ?_) (fun hd => ?_)
      · refine g_sub [0, 1, 2] rfl ?_
        exact w_X3_kills_b34 C E Q ih _ _ _ _ _ _ hd
      · refine g_aload_n C dX3_kills_24 rfl 0 rfl ?_
        obtain ⟨v5, hv5, hd⟩ := Option.bind_eq_some_iff.mp hd
        refine g_fld C gk_X3 (k := 39) (by decide) q2005 (Or.inl rfl) dX3_kills_25 (gR_v hv5) ?_
        refine g_iload_n C dX3_kills_28 rfl 2 rfl ?_
        obtain ⟨v6, hv6, hd⟩ := Option.bind_eq_some_iff.mp hd
        refine g_ialdV C dX3_kills_29 hv6 ?_
        refine g_iload_n C dX3_kills_30 rfl 1 rfl ?_
        refine g_icmp_ne (tgt := 38) C dX3_kills_31 (by decide) hd (fun hd => ?_) (fun hd => ?_)
        · refine g_iconst (v := 0) C dX3_kills_38 (by decide) ?_
          refine g_sub [0, 1, 2] rfl ?_
          exact w_X3_kills_b39 C E Q ih _ _ _ _ _ _ _ hd
        · refine g_sub [0, 1, 2] rfl ?_
          exact w_X3_kills_b34 C E Q ih _ _ _ _ _ _ hd
theorem w_X3_kills_b0m {K : KT} {r : Unit} {S1 : St} (C : GC K RX3 cX3_kills 3 2 []) (E : EH (kΓ K) (kHI K) (kl K)) (Q : GQ K none (.inl none) S1) : ∀ (S : St) (x0 : Option Nat) (x1 : Int32), n_X3_kills S x0 x1 = some (r, S1) → G K 3 S 0 [(0, vR x0), (1, vI x1)] [] := by
  intro S x0 x1 hd
  unfold n_X3_kills at hd
  refine g_iconst (v := 0) C dX3_kills_0 (by decide) ?_
  refine g_istore_n (L' := [(2, vI (0 : Int32)), (0, vR x0), (1, vI x1)]) C dX3_kills_1 rfl (by decide) rfl ?_
  refine g_sub [1, 2, 0] rfl ?_
  exact w_X3_kills_b2 C E Q FU _ _ _ _ hd
theorem m_X3_kills {Γ : GG} {HI : St → Heap → Prop} {l : Launch} (E : EH Γ HI l) {S : St} {a0 : Option Nat} {a1 : Int32} {r : Unit} {S1 : St} (h : n_X3_kills S a0 a1 = some (r, S1)) : MS Γ HI l yX3_kills cX3_kills 3 none 2 S [vR a0, vI a1] (.inl none) S1 := by
  refine MS_of E.ntr E.hx (by decide +kernel) rfl (Nat.le_of_ble_eq_true rfl) fun K e1 e2 e3 e4 hnm C Q => ?_
  subst e1; subst e2; subst e3
  exact w_X3_kills_b0m C E Q S a0 a1 h

def n_X3_takesWords_b84 (k19 : St → Option Nat → Int32 → Int32 → Int32 → Int32 → Option (Unit × St)) (S : St) (x0 : Option Nat) (x1 : Int32) (x3 : Int32) (x4 : Int32) (y0 : Int32) (y1 : Int32) : Option (Unit × St) :=
  k19 S x0 x1 (y1 + y0) x3 (x4 + (-1))
def n_X3_takesWords_b83 (k19 : St → Option Nat → Int32 → Int32 → Int32 → Int32 → Option (Unit × St)) (S : St) (x0 : Option Nat) (x1 : Int32) (x3 : Int32) (x4 : Int32) (y0 : Int32) : Option (Unit × St) :=
  n_X3_takesWords_b84 k19 S x0 x1 x3 x4 (0 : Int32) y0
def n_X3_takesWords_b55 (k19 : St → Option Nat → Int32 → Int32 → Int32 → Int32 → Option (Unit × St)) (S : St) (x0 : Option Nat) (x1 : Int32) (x2 : Int32) (x4 : Int32) (x5 : Int32) (y0 : Int32) : Option (Unit × St) :=
  if x5 = (-3 : Int32) then
    n_X3_takesWords_b84 k19 S x0 x1 y0 x4 (1 : Int32) x2
  else
    if x5 = (-2 : Int32) then
      if x2 ≤ 0 then
        n_X3_takesWords_b83 k19 S x0 x1 y0 x4 x2
      else
        n_X3_takesWords_b84 k19 S x0 x1 y0 x4 (-1 : Int32) x2
    else
      n_X3_takesWords_b83 k19 S x0 x1 y0 x4 x2
def n_X3_takesWords_b54 (k19 : St → Option Nat → Int32 → Int32 → Int32 → Int32 → Option (Unit × St)) (S : St) (x0 : Option Nat) (x1 : Int32) (x2 : Int32) (x3 : Int32) (x4 : Int32) (x5 : Int32) : Option (Unit × St) :=
  n_X3_takesWords_b55 k19 S x0 x1 x2 x4 x5 x3
def n_X3_takesWords_b199 (k103 : St → Option Nat → Int32 → Int32 → Int32 → Int32 → Option (Unit × St)) (S : St) (x0 : Option Nat) (x1 : Int32) (x3 : Int32) (x5 : Int32) (y0 : Int32) (y1 : Int32) : Option (Unit × St) :=
  k103 S x0 x1 x3 (y1 + y0) (x5 + 1)
def n_X3_takesWords_b198 (k103 : St → Option Nat → Int32 → Int32 → Int32 → Int32 → Option (Unit × St)) (S : St) (x0 : Option Nat) (x1 : Int32) (x3 : Int32) (x5 : Int32) (y0 : Int32) : Option (Unit × St) :=
  n_X3_takesWords_b199 k103 S x0 x1 x3 x5 (0 : Int32) y0
def n_X3_takesWords_b169 (k103 : St → Option Nat → Int32 → Int32 → Int32 → Int32 → Option (Unit × St)) (S : St) (x0 : Option Nat) (x1 : Int32) (x3 : Int32) (x4 : Int32) (x5 : Int32) (x6 : Int32) : Option (Unit × St) :=
  if x6 = (-2 : Int32) then
    n_X3_takesWords_b199 k103 S x0 x1 x3 x5 (1 : Int32) x4
  else
    if x6 = (-3 : Int32) then
      if x4 ≤ 0 then
        n_X3_takesWords_b198 k103 S x0 x1 x3 x5 x4
      else
        n_X3_takesWords_b199 k103 S x0 x1 x3 x5 (-1 : Int32) x4
    else
      n_X3_takesWords_b198 k103 S x0 x1 x3 x5 x4
def n_X3_takesWords_b103 : Nat → St → Option Nat → Int32 → Int32 → Int32 → Int32 → Option (Unit × St)
  | 0 => fun _ _ _ _ _ _ => none
  | n + 1 => fun S x0 x1 x3 x4 x5 =>
    if x3 ≤ x5 then
      some ((), S)
    else
      (gR S x0 15 9).bind fun v1 =>
      (aI S v1 0 (((20 : Int32) * x1) + x5)).bind fun v2 =>
      if v2 < 0 then
        n_X3_takesWords_b169 (n_X3_takesWords_b103 n) S x0 x1 x3 x4 x5 v2
      else
        (gI S x0 15 28).bind fun v3 =>
        if v3 < x4 then
          n_X3_takesWords_b169 (n_X3_takesWords_b103 n) S x0 x1 x3 x4 x5 v2
        else
          (gI S x0 15 44).bind fun v4 =>
          (gI S x0 15 29).bind fun v5 =>
          if v5 ≤ v4 then
            n_X3_takesWords_b169 (n_X3_takesWords_b103 n) S x0 x1 x3 x4 x5 v2
          else
            (gR S x0 15 45).bind fun v6 =>
            (gI S x0 15 44).bind fun v7 =>
            (sI S v6 0 v7 v2).bind fun S8 =>
            (gI S8 x0 15 44).bind fun v9 =>
            (pI .int S8 x0 15 44 (v9 + (1 : Int32))).bind fun S10 =>
            n_X3_takesWords_b169 (n_X3_takesWords_b103 n) S10 x0 x1 x3 x4 x5 v2
def n_X3_takesWords_b19 : Nat → St → Option Nat → Int32 → Int32 → Int32 → Int32 → Option (Unit × St)
  | 0 => fun _ _ _ _ _ _ => none
  | n + 1 => fun S x0 x1 x2 x3 x4 =>
    if x4 < 0 then
      (pI .int S x0 15 44 (0 : Int32)).bind fun S1 =>
      n_X3_takesWords_b103 FU S1 x0 x1 x3 (0 : Int32) (0 : Int32)
    else
      (gR S x0 15 9).bind fun v2 =>
      (aI S v2 0 (((20 : Int32) * x1) + x4)).bind fun v3 =>
      if v3 = (-2 : Int32) then
        if x2 = 0 then
          n_X3_takesWords_b55 (n_X3_takesWords_b19 n) S x0 x1 x2 x4 v3 x4
        else
          n_X3_takesWords_b54 (n_X3_takesWords_b19 n) S x0 x1 x2 x3 x4 v3
      else
        n_X3_takesWords_b54 (n_X3_takesWords_b19 n) S x0 x1 x2 x3 x4 v3
def n_X3_takesWords (S : St) (x0 : Option Nat) (x1 : Int32) : Option (Unit × St) :=
  (gR S x0 15 8).bind fun v1 =>
  (aI S v1 0 x1).bind fun v2 =>
  (gR S x0 15 8).bind fun v3 =>
  (aI S v3 0 x1).bind fun v4 =>
  n_X3_takesWords_b19 FU S x0 x1 (0 : Int32) v2 (v4 - (1 : Int32))
theorem w_X3_takesWords_b84 {K : KT} {r : Unit} {S1 : St} (C : GC K RX3 cX3_takesWords 7 2 []) (E : EH (kΓ K) (kHI K) (kl K)) (Q : GQ K none (.inl none) S1) {k19 : St → Option Nat → Int32 → Int32 → Int32 → Int32 → Option (Unit × St)} (h19 : ∀ (S : St) (x0 : Option Nat) (x1 : Int32) (x2 : Int32) (x3 : Int32) (x4 : Int32), k19 S x0 x1 x2 x3 x4 = some (r, S1) → G K 7 S 19 [(0, vR x0), (1, vI x1), (2, vI x2), (3, vI x3), (4, vI x4)] []) : ∀ (S : St) (x0 : Option Nat) (x1 : Int32) (x3 : Int32) (x4 : Int32) (y0 : Int32) (y1 : Int32), n_X3_takesWords_b84 k19 S x0 x1 x3 x4 y0 y1 = some (r, S1) → G K 7 S 84 [(0, vR x0), (1, vI x1), (3, vI x3), (4, vI x4)] [vI y0, vI y1] := by
  intro S x0 x1 x3 x4 y0 y1 hd
  unfold n_X3_takesWords_b84 at hd
  refine g_iadd C dX3_takesWords_84 ?_
  refine g_istore_n (L' := [(2, vI (y1 + y0)), (0, vR x0), (1, vI x1), (3, vI x3), (4, vI x4)]) C dX3_takesWords_85 rfl (by decide) rfl ?_
  refine g_iinc (v := x4 + (-1)) (L' := [(4, vI (x4 + (-1))), (2, vI (y1 + y0)), (0, vR x0), (1, vI x1), (3, vI x3)]) C dX3_takesWords_86 4 rfl rfl (by decide) rfl ?_
  refine g_goto (tgt := 19) C dX3_takesWords_89 (by decide) ?_
  refine g_sub [2, 3, 1, 4, 0] rfl ?_
  exact h19 _ _ _ _ _ _ hd
theorem w_X3_takesWords_b83 {K : KT} {r : Unit} {S1 : St} (C : GC K RX3 cX3_takesWords 7 2 []) (E : EH (kΓ K) (kHI K) (kl K)) (Q : GQ K none (.inl none) S1) {k19 : St → Option Nat → Int32 → Int32 → Int32 → Int32 → Option (Unit × St)} (h19 : ∀ (S : St) (x0 : Option Nat) (x1 : Int32) (x2 : Int32) (x3 : Int32) (x4 : Int32), k19 S x0 x1 x2 x3 x4 = some (r, S1) → G K 7 S 19 [(0, vR x0), (1, vI x1), (2, vI x2), (3, vI x3), (4, vI x4)] []) : ∀ (S : St) (x0 : Option Nat) (x1 : Int32) (x3 : Int32) (x4 : Int32) (y0 : Int32), n_X3_takesWords_b83 k19 S x0 x1 x3 x4 y0 = some (r, S1) → G K 7 S 83 [(0, vR x0), (1, vI x1), (3, vI x3), (4, vI x4)] [vI y0] := by
  intro S x0 x1 x3 x4 y0 hd
  unfold n_X3_takesWords_b83 at hd
  refine g_iconst (v := 0) C dX3_takesWords_83 (by decide) ?_
  refine g_sub [0, 1, 2, 3] rfl ?_
  exact w_X3_takesWords_b84 C E Q h19 _ _ _ _ _ _ _ hd
theorem w_X3_takesWords_b55 {K : KT} {r : Unit} {S1 : St} (C : GC K RX3 cX3_takesWords 7 2 []) (E : EH (kΓ K) (kHI K) (kl K)) (Q : GQ K none (.inl none) S1) {k19 : St → Option Nat → Int32 → Int32 → Int32 → Int32 → Option (Unit × St)} (h19 : ∀ (S : St) (x0 : Option Nat) (x1 : Int32) (x2 : Int32) (x3 : Int32) (x4 : Int32), k19 S x0 x1 x2 x3 x4 = some (r, S1) → G K 7 S 19 [(0, vR x0), (1, vI x1), (2, vI x2), (3, vI x3), (4, vI x4)] []) : ∀ (S : St) (x0 : Option Nat) (x1 : Int32) (x2 : Int32) (x4 : Int32) (x5 : Int32) (y0 : Int32), n_X3_takesWords_b55 k19 S x0 x1 x2 x4 x5 y0 = some (r, S1) → G K 7 S 55 [(0, vR x0), (1, vI x1), (2, vI x2), (4, vI x4), (5, vI x5)] [vI y0] := by
  intro S x0 x1 x2 x4 x5 y0 hd
  unfold n_X3_takesWords_b55 at hd
  refine g_istore_n (L' := [(3, vI y0), (0, vR x0), (1, vI x1), (2, vI x2), (4, vI x4), (5, vI x5)]) C dX3_takesWords_55 rfl (by decide) rfl ?_
  refine g_iload_n C dX3_takesWords_56 rfl 3 rfl ?_
  refine g_iload C dX3_takesWords_57 5 rfl ?_
  refine g_bipush (v := (-3)) C dX3_takesWords_59 (by decide) ?_
  refine g_icmp_ne (tgt := 68) C dX3_takesWords_61 (by decide) hd (fun hd => ?_) (fun hd => ?_)
  · refine g_iload C dX3_takesWords_68 5 rfl ?_
    refine g_bipush (v := (-2)) C dX3_takesWords_70 (by decide) ?_
    refine g_icmp_ne (tgt := 83) C dX3_takesWords_72 (by decide) hd (fun hd => ?_) (fun hd => ?_)
    · refine g_sub [1, 2, 0, 4] rfl ?_
      exact w_X3_takesWords_b83 C E Q h19 _ _ _ _ _ _ hd
    · refine g_iload_n C dX3_takesWords_75 rfl 3 rfl ?_
      refine g_if_le (tgt := 83) C dX3_takesWords_76 (by decide) hd (fun hd => ?_) (fun hd => ?_)
      · refine g_sub [1, 2, 0, 4] rfl ?_
        exact w_X3_takesWords_b83 C E Q h19 _ _ _ _ _ _ hd
      · refine g_iconst (v := (-1)) C dX3_takesWords_79 (by decide) ?_
        refine g_goto (tgt := 84) C dX3_takesWords_80 (by decide) ?_
        refine g_sub [1, 2, 0, 4] rfl ?_
        exact w_X3_takesWords_b84 C E Q h19 _ _ _ _ _ _ _ hd
  · refine g_iconst (v := 1) C dX3_takesWords_64 (by decide) ?_
    refine g_goto (tgt := 84) C dX3_takesWords_65 (by decide) ?_
    refine g_sub [1, 2, 0, 4] rfl ?_
    exact w_X3_takesWords_b84 C E Q h19 _ _ _ _ _ _ _ hd
theorem w_X3_takesWords_b54 {K : KT} {r : Unit} {S1 : St} (C : GC K RX3 cX3_takesWords 7 2 []) (E : EH (kΓ K) (kHI K) (kl K)) (Q : GQ K none (.inl none) S1) {k19 : St → Option Nat → Int32 → Int32 → Int32 → Int32 → Option (Unit × St)} (h19 : ∀ (S : St) (x0 : Option Nat) (x1 : Int32) (x2 : Int32) (x3 : Int32) (x4 : Int32), k19 S x0 x1 x2 x3 x4 = some (r, S1) → G K 7 S 19 [(0, vR x0), (1, vI x1), (2, vI x2), (3, vI x3), (4, vI x4)] []) : ∀ (S : St) (x0 : Option Nat) (x1 : Int32) (x2 : Int32) (x3 : Int32) (x4 : Int32) (x5 : Int32), n_X3_takesWords_b54 k19 S x0 x1 x2 x3 x4 x5 = some (r, S1) → G K 7 S 54 [(0, vR x0), (1, vI x1), (2, vI x2), (3, vI x3), (4, vI x4), (5, vI x5)] [] := by
  intro S x0 x1 x2 x3 x4 x5 hd
  unfold n_X3_takesWords_b54 at hd
  refine g_iload_n C dX3_takesWords_54 rfl 3 rfl ?_
  refine g_sub [0, 1, 2, 4, 5] rfl ?_
  exact w_X3_takesWords_b55 C E Q h19 _ _ _ _ _ _ _ hd
theorem w_X3_takesWords_b199 {K : KT} {r : Unit} {S1 : St} (C : GC K RX3 cX3_takesWords 7 2 []) (E : EH (kΓ K) (kHI K) (kl K)) (Q : GQ K none (.inl none) S1) {k103 : St → Option Nat → Int32 → Int32 → Int32 → Int32 → Option (Unit × St)} (h103 : ∀ (S : St) (x0 : Option Nat) (x1 : Int32) (x3 : Int32) (x4 : Int32) (x5 : Int32), k103 S x0 x1 x3 x4 x5 = some (r, S1) → G K 7 S 103 [(0, vR x0), (1, vI x1), (3, vI x3), (4, vI x4), (5, vI x5)] []) : ∀ (S : St) (x0 : Option Nat) (x1 : Int32) (x3 : Int32) (x5 : Int32) (y0 : Int32) (y1 : Int32), n_X3_takesWords_b199 k103 S x0 x1 x3 x5 y0 y1 = some (r, S1) → G K 7 S 199 [(0, vR x0), (1, vI x1), (3, vI x3), (5, vI x5)] [vI y0, vI y1] := by
  intro S x0 x1 x3 x5 y0 y1 hd
  unfold n_X3_takesWords_b199 at hd
  refine g_iadd C dX3_takesWords_199 ?_
  refine g_istore (L' := [(4, vI (y1 + y0)), (0, vR x0), (1, vI x1), (3, vI x3), (5, vI x5)]) C dX3_takesWords_200 (by decide) rfl ?_
  refine g_iinc (v := x5 + 1) (L' := [(5, vI (x5 + 1)), (4, vI (y1 + y0)), (0, vR x0), (1, vI x1), (3, vI x3)]) C dX3_takesWords_202 4 rfl rfl (by decide) rfl ?_
  refine g_goto (tgt := 103) C dX3_takesWords_205 (by decide) ?_
  refine g_sub [2, 3, 4, 1, 0] rfl ?_
  exact h103 _ _ _ _ _ _ hd
theorem w_X3_takesWords_b198 {K : KT} {r : Unit} {S1 : St} (C : GC K RX3 cX3_takesWords 7 2 []) (E : EH (kΓ K) (kHI K) (kl K)) (Q : GQ K none (.inl none) S1) {k103 : St → Option Nat → Int32 → Int32 → Int32 → Int32 → Option (Unit × St)} (h103 : ∀ (S : St) (x0 : Option Nat) (x1 : Int32) (x3 : Int32) (x4 : Int32) (x5 : Int32), k103 S x0 x1 x3 x4 x5 = some (r, S1) → G K 7 S 103 [(0, vR x0), (1, vI x1), (3, vI x3), (4, vI x4), (5, vI x5)] []) : ∀ (S : St) (x0 : Option Nat) (x1 : Int32) (x3 : Int32) (x5 : Int32) (y0 : Int32), n_X3_takesWords_b198 k103 S x0 x1 x3 x5 y0 = some (r, S1) → G K 7 S 198 [(0, vR x0), (1, vI x1), (3, vI x3), (5, vI x5)] [vI y0] := by
  intro S x0 x1 x3 x5 y0 hd
  unfold n_X3_takesWords_b198 at hd
  refine g_iconst (v := 0) C dX3_takesWords_198 (by decide) ?_
  refine g_sub [0, 1, 2, 3] rfl ?_
  exact w_X3_takesWords_b199 C E Q h103 _ _ _ _ _ _ _ hd
theorem w_X3_takesWords_b169 {K : KT} {r : Unit} {S1 : St} (C : GC K RX3 cX3_takesWords 7 2 []) (E : EH (kΓ K) (kHI K) (kl K)) (Q : GQ K none (.inl none) S1) {k103 : St → Option Nat → Int32 → Int32 → Int32 → Int32 → Option (Unit × St)} (h103 : ∀ (S : St) (x0 : Option Nat) (x1 : Int32) (x3 : Int32) (x4 : Int32) (x5 : Int32), k103 S x0 x1 x3 x4 x5 = some (r, S1) → G K 7 S 103 [(0, vR x0), (1, vI x1), (3, vI x3), (4, vI x4), (5, vI x5)] []) : ∀ (S : St) (x0 : Option Nat) (x1 : Int32) (x3 : Int32) (x4 : Int32) (x5 : Int32) (x6 : Int32), n_X3_takesWords_b169 k103 S x0 x1 x3 x4 x5 x6 = some (r, S1) → G K 7 S 169 [(0, vR x0), (1, vI x1), (3, vI x3), (4, vI x4), (5, vI x5), (6, vI x6)] [] := by
  intro S x0 x1 x3 x4 x5 x6 hd
  unfold n_X3_takesWords_b169 at hd
  refine g_iload C dX3_takesWords_169 3 rfl ?_
  refine g_iload C dX3_takesWords_171 5 rfl ?_
  refine g_bipush (v := (-2)) C dX3_takesWords_173 (by decide) ?_
  refine g_icmp_ne (tgt := 182) C dX3_takesWords_175 (by decide) hd (fun hd => ?_) (fun hd => ?_)
  · refine g_iload C dX3_takesWords_182 5 rfl ?_
    refine g_bipush (v := (-3)) C dX3_takesWords_184 (by decide) ?_
    refine g_icmp_ne (tgt := 198) C dX3_takesWords_186 (by decide) hd (fun hd => ?_) (fun hd => ?_)
    · refine g_sub [0, 1, 2, 4] rfl ?_
      exact w_X3_takesWords_b198 C E Q h103 _ _ _ _ _ _ hd
    · refine g_iload C dX3_takesWords_189 3 rfl ?_
      refine g_if_le (tgt := 198) C dX3_takesWords_191 (by decide) hd (fun hd => ?_) (fun hd => ?_)
      · refine g_sub [0, 1, 2, 4] rfl ?_
        exact w_X3_takesWords_b198 C E Q h103 _ _ _ _ _ _ hd
      · refine g_iconst (v := (-1)) C dX3_takesWords_194 (by decide) ?_
        refine g_goto (tgt := 199) C dX3_takesWords_195 (by decide) ?_
        refine g_sub [0, 1, 2, 4] rfl ?_
        exact w_X3_takesWords_b199 C E Q h103 _ _ _ _ _ _ _ hd
  · refine g_iconst (v := 1) C dX3_takesWords_178 (by decide) ?_
    refine g_goto (tgt := 199) C dX3_takesWords_179 (by decide) ?_
    refine g_sub [0, 1, 2, 4] rfl ?_
    exact w_X3_takesWords_b199 C E Q h103 _ _ _ _ _ _ _ hd
theorem w_X3_takesWords_b103 {K : KT} {r : Unit} {S1 : St} (C : GC K RX3 cX3_takesWords 7 2 []) (E : EH (kΓ K) (kHI K) (kl K)) (Q : GQ K none (.inl none) S1) : ∀ (n : Nat) (S : St) (x0 : Option Nat) (x1 : Int32) (x3 : Int32) (x4 : Int32) (x5 : Int32), n_X3_takesWords_b103 n S x0 x1 x3 x4 x5 = some (r, S1) → G K 7 S 103 [(0, vR x0), (1, vI x1), (3, vI x3), (4, vI x4), (5, vI x5)] [] := by
  intro n
  induction n with
  | zero => intro S x0 x1 x3 x4 x5 hd; cases hd
  | succ n ih =>
    intro S x0 x1 x3 x4 x5 hd
    unfold n_X3_takesWords_b103 at hd
    refine g_iload C dX3_takesWords_103 4 rfl ?_
    refine g_iload_n C dX3_takesWords_105 rfl 2 rfl ?_
    refine g_icmp_ge (tgt := 208) C dX3_takesWords_106 (by decide) hd (fun hd => ?_) (fun hd => ?_)
    · exact g_vret C Q hd dX3_takesWords_208
    · refine g_aload_n C dX3_takesWords_109 rfl 0 rfl ?_
      obtain ⟨v1, hv1, hd⟩ := Option.bind_eq_some_iff.mp hd
      refine g_fld C gk_X3 (k := 9) (by decide) q1975 (Or.inl rfl) dX3_takesWords_110 (gR_v hv1) ?_
      refine g_bipush (v := 20) C dX3_takesWords_113 (by decide) ?_
      refine g_iload_n C dX3_takesWords_115 rfl 1 rfl ?_
      refine g_imul C dX3_takesWords_116 ?_
      refine g_iload C dX3_takesWords_117 4 rfl ?_
      refine g_iadd C dX3_takesWords_119 ?_
      obtain ⟨v2, hv2, hd⟩ := Option.bind_eq_some_iff.mp hd
      refine g_ialdV C dX3_takesWords_120 hv2 ?_
      refine g_istore (L' := [(6, vI v2), (0, vR x0), (1, vI x1), (3, vI x3), (4, vI x4), (5, vI x5)]) C dX3_takesWords_121 (by decide) rfl ?_
      refine g_iload C dX3_takesWords_123 0 rfl ?_
      refine g_if_lt (tgt := 169) C dX3_takesWords_125 (by decide) hd (fun hd => ?_) (fun hd => ?_)
      · refine g_sub [1, 2, 3, 4, 5, 0] rfl ?_
        exact w_X3_takesWords_b169 C E Q ih _ _ _ _ _ _ _ hd
      · refine g_iload C dX3_takesWords_128 4 rfl ?_
        refine g_aload_n C dX3_takesWords_130 rfl 1 rfl ?_
        obtain ⟨v3, hv3, hd⟩ := Option.bind_eq_some_iff.mp hd
        refine g_fld C gk_X3 (k := 28) (by decide) q1994 (Or.inl rfl) dX3_takesWords_131 (gI_v hv3) ?_
        refine g_icmp_gt (tgt := 169) C dX3_takesWords_134 (by decide) hd (fun hd => ?_) (fun hd => ?_)
        · refine g_sub [1, 2, 3, 4, 5, 0] rfl ?_
          exact w_X3_takesWords_b169 C E Q ih _ _ _ _ _ _ _ hd
        · refine g_aload_n C dX3_takesWords_137 rfl 1 rfl ?_
          obtain ⟨v4, hv4, hd⟩ := Option.bind_eq_some_iff.mp hd
          refine g_fld C gk_X3 (k := 44) (by decide) q2010 (Or.inl rfl) dX3_takesWords_138 (gI_v hv4) ?_
          refine g_aload_n C dX3_takesWords_141 rfl 1 rfl ?_
          obtain ⟨v5, hv5, hd⟩ := Option.bind_eq_some_iff.mp hd
          refine g_fld C gk_X3 (k := 29) (by decide) q1995 (Or.inl rfl) dX3_takesWords_142 (gI_v hv5) ?_
          refine g_icmp_ge (tgt := 169) C dX3_takesWords_145 (by decide) hd (fun hd => ?_) (fun hd => ?_)
          · refine g_sub [1, 2, 3, 4, 5, 0] rfl ?_
            exact w_X3_takesWords_b169 C E Q ih _ _ _ _ _ _ _ hd
          · refine g_aload_n C dX3_takesWords_148 rfl 1 rfl ?_
            obtain ⟨v6, hv6, hd⟩ := Option.bind_eq_some_iff.mp hd
            refine g_fld C gk_X3 (k := 45) (by decide) q2011 (Or.inl rfl) dX3_takesWords_149 (gR_v hv6) ?_
            refine g_aload_n C dX3_takesWords_152 rfl 1 rfl ?_
            obtain ⟨v7, hv7, hd⟩ := Option.bind_eq_some_iff.mp hd
            refine g_fld C gk_X3 (k := 44) (by decide) q2010 (Or.inl rfl) dX3_takesWords_153 (gI_v hv7) ?_
            refine g_iload C dX3_takesWords_156 0 rfl ?_
            obtain ⟨S8, hS8, hd⟩ := Option.bind_eq_some_iff.mp hd
            refine g_iastV C dX3_takesWords_158 hS8 ?_
            refine g_aload_n C dX3_takesWords_159 rfl 1 rfl ?_
            refine g_dup C dX3_takesWords_160 rfl ?_
            obtain ⟨v9, hv9, hd⟩ := Option.bind_eq_some_iff.mp hd
            refine g_fld C gk_X3 (k := 44) (by decide) q2010 (Or.inl rfl) dX3_takesWords_161 (gI_v hv9) ?_
            refine g_iconst (v := 1) C dX3_takesWords_164 (by decide) ?_
            refine g_iadd C dX3_takesWords_165 ?_
            obtain ⟨S10, hS10, hd⟩ := Option.bind_eq_some_iff.mp hd
            refine g_put C gk_X3 (k := 44) (by decide) q2010 (Or.inl rfl) rfl dX3_takesWords_166 (gfit_ok (pI_v hS10).1).1 (gfit_ok (pI_v hS10).1).2 (pI_v hS10).2 ?_
            refine g_sub [1, 2, 3, 4, 5, 0] rfl ?_
            exact w_X3_takesWords_b169 C E Q ih _ _ _ _ _ _ _ hd
theorem w_X3_takesWords_b19 {K : KT} {r : Unit} {S1 : St} (C : GC K RX3 cX3_takesWords 7 2 []) (E : EH (kΓ K) (kHI K) (kl K)) (Q : GQ K none (.inl none) S1) : ∀ (n : Nat) (S : St) (x0 : Option Nat) (x1 : Int32) (x2 : Int32) (x3 : Int32) (x4 : Int32), n_X3_takesWords_b19 n S x0 x1 x2 x3 x4 = some (r, S1) → G K 7 S 19 [(0, vR x0), (1, vI x1), (2, vI x2), (3, vI x3), (4, vI x4)] [] := by
  intro n
  induction n with
  | zero => intro S x0 x1 x2 x3 x4 hd; cases hd
  | succ n ih =>
    intro S x0 x1 x2 x3 x4 hd
    unfold n_X3_takesWords_b19 at hd
    refine g_iload C dX3_takesWords_19 4 rfl ?_
    refine g_if_lt (tgt := 92) C dX3_takesWords_21 (by decide) hd (fun hd => ?_) (fun hd => ?_)
    · refine g_aload_n C dX3_takesWords_92 rfl 0 rfl ?_
      refine g_iconst (v := 0) C dX3_takesWords_93 (by decide) ?_
      obtain ⟨S1, hS1, hd⟩ := Option.bind_eq_some_iff.mp hd
      refine g_put C gk_X3 (k := 44) (by decide) q2010 (Or.inl rfl) rfl dX3_takesWords_94 (gfit_ok (pI_v hS1).1).1 (gfit_ok (pI_v hS1).1).2 (pI_v hS1).2 ?_
      refine g_iconst (v := 0) C dX3_takesWords_97 (by decide) ?_
      refine g_istore (L' := [(4, vI (0 : Int32)), (0, vR x0), (1, vI x1), (2, vI x2), (3, vI x3)]) C dX3_takesWords_98 (by decide) rfl ?_
      refine g_iconst (v := 0) C dX3_takesWords_100 (by decide) ?_
      refine g_istore (L' := [(5, vI (0 : Int32)), (4, vI (0 : Int32)), (0, vR x0), (1, vI x1), (2, vI x2), (3, vI x3)]) C dX3_takesWords_101 (by decide) rfl ?_
      refine g_sub [2, 3, 5, 1, 0] rfl ?_
      exact w_X3_takesWords_b103 C E Q FU _ _ _ _ _ _ hd
    · refine g_aload_n C dX3_takesWords_24 rfl 0 rfl ?_
      obtain ⟨v2, hv2, hd⟩ := Option.bind_eq_some_iff.mp hd
      refine g_fld C gk_X3 (k := 9) (by decide) q1975 (Or.inl rfl) dX3_takesWords_25 (gR_v hv2) ?_
      refine g_bipush (v := 20) C dX3_takesWords_28 (by decide) ?_
      refine g_iload_n C dX3_takesWords_30 rfl 1 rfl ?_
      refine g_imul C dX3_takesWords_31 ?_
      refine g_iload C dX3_takesWords_32 4 rfl ?_
      refine g_iadd C dX3_takesWords_34 ?_
      obtain ⟨v3, hv3, hd⟩ := Option.bind_eq_some_iff.mp hd
      refine g_ialdV C dX3_takesWords_35 hv3 ?_
      refine g_istore (L' := [(5, vI v3), (0, vR x0), (1, vI x1), (2, vI x2), (3, vI x3), (4, vI x4)]) C dX3_takesWords_36 (by decide) rfl ?_
      refine g_iload C dX3_takesWords_38 0 rfl ?_
      refine g_bipush (v := (-2)) C dX3_takesWords_40 (by decide) ?_
      refine g_icmp_ne (tgt := 54) C dX3_takesWords_42 (by decide) hd (fun hd => ?_) (fun hd => ?_)
      · refine g_sub [1, 2, 3, 4, 5, 0] rfl ?_
        exact w_X3_takesWords_b54 C E Q ih _ _ _ _ _ _ _ hd
      · refine g_iload_n C dX3_takesWords_45 rfl 3 rfl ?_
        refine g_if_ne (tgt := 54) C dX3_takesWords_46 (by decide) hd (fun hd => ?_) (fun hd => ?_)
        · refine g_sub [1, 2, 3, 4, 5, 0] rfl ?_
          exact w_X3_takesWords_b54 C E Q ih _ _ _ _ _ _ _ hd
        · refine g_iload C dX3_takesWords_49 5 rfl ?_
          refine g_goto (tgt := 55) C dX3_takesWords_51 (by decide) ?_
          refine g_sub [1, 2, 3, 5, 0] rfl ?_
          exact w_X3_takesWords_b55 C E Q ih _ _ _ _ _ _ _ hd
theorem w_X3_takesWords_b0m {K : KT} {r : Unit} {S1 : St} (C : GC K RX3 cX3_takesWords 7 2 []) (E : EH (kΓ K) (kHI K) (kl K)) (Q : GQ K none (.inl none) S1) : ∀ (S : St) (x0 : Option Nat) (x1 : Int32), n_X3_takesWords S x0 x1 = some (r, S1) → G K 7 S 0 [(0, vR x0), (1, vI x1)] [] := by
  intro S x0 x1 hd
  unfold n_X3_takesWords at hd
  refine g_iconst (v := 0) C dX3_takesWords_0 (by decide) ?_
  refine g_istore_n (L' := [(2, vI (0 : Int32)), (0, vR x0), (1, vI x1)]) C dX3_takesWords_1 rfl (by decide) rfl ?_
  refine g_aload_n C dX3_takesWords_2 rfl 1 rfl ?_
  obtain ⟨v1, hv1, hd⟩ := Option.bind_eq_some_iff.mp hd
  refine g_fld C gk_X3 (k := 8) (by decide) q1974 (Or.inl rfl) dX3_takesWords_3 (gR_v hv1) ?_
  refine g_iload_n C dX3_takesWords_6 rfl 2 rfl ?_
  obtain ⟨v2, hv2, hd⟩ := Option.bind_eq_some_iff.mp hd
  refine g_ialdV C dX3_takesWords_7 hv2 ?_
  refine g_istore_n (L' := [(3, vI v2), (2, vI (0 : Int32)), (0, vR x0), (1, vI x1)]) C dX3_takesWords_8 rfl (by decide) rfl ?_
  refine g_aload_n C dX3_takesWords_9 rfl 2 rfl ?_
  obtain ⟨v3, hv3, hd⟩ := Option.bind_eq_some_iff.mp hd
  refine g_fld C gk_X3 (k := 8) (by decide) q1974 (Or.inl rfl) dX3_takesWords_10 (gR_v hv3) ?_
  refine g_iload_n C dX3_takesWords_13 rfl 3 rfl ?_
  obtain ⟨v4, hv4, hd⟩ := Option.bind_eq_some_iff.mp hd
  refine g_ialdV C dX3_takesWords_14 hv4 ?_
  refine g_iconst (v := 1) C dX3_takesWords_15 (by decide) ?_
  refine g_isub C dX3_takesWords_16 ?_
  refine g_istore (L' := [(4, vI (v4 - (1 : Int32))), (3, vI v2), (2, vI (0 : Int32)), (0, vR x0), (1, vI x1)]) C dX3_takesWords_17 (by decide) rfl ?_
  refine g_sub [3, 4, 2, 1, 0] rfl ?_
  exact w_X3_takesWords_b19 C E Q FU _ _ _ _ _ _ hd
theorem m_X3_takesWords {Γ : GG} {HI : St → Heap → Prop} {l : Launch} (E : EH Γ HI l) {S : St} {a0 : Option Nat} {a1 : Int32} {r : Unit} {S1 : St} (h : n_X3_takesWords S a0 a1 = some (r, S1)) : MS Γ HI l yX3_takesWords cX3_takesWords 7 none 2 S [vR a0, vI a1] (.inl none) S1 := by
  refine MS_of E.ntr E.hx (by decide +kernel) rfl (Nat.le_of_ble_eq_true rfl) fun K e1 e2 e3 e4 hnm C Q => ?_
  subst e1; subst e2; subst e3
  exact w_X3_takesWords_b0m C E Q S a0 a1 h

def n_X3_reads_b29 : Nat → St → Option Nat → Int32 → Int32 → Option (Unit × St)
  | 0 => fun _ _ _ _ => none
  | n + 1 => fun S x0 x1 x2 =>
    (gI S x0 15 44).bind fun v1 =>
    if v1 ≤ x2 then
      gd (grc S x0 15) <|
      bn (n_X3_kills S x0 x1) fun _ S2 =>
      (gR S2 x0 15 42).bind fun v4 =>
      (sI S2 v4 1 x1 (1 : Int32)).bind fun S5 =>
      some ((), S5)
    else
      (gR S x0 15 27).bind fun v6 =>
      (gR S x0 15 45).bind fun v7 =>
      (aI S v7 0 x2).bind fun v8 =>
      (sI S v6 0 (((20 : Int32) * x1) + x2) v8).bind fun S9 =>
      (n_X3_reads_b29 n) S9 x0 x1 (x2 + 1)
def n_X3_reads (S : St) (x0 : Option Nat) (x1 : Int32) : Option (Unit × St) :=
  gd (grc S x0 15) <|
  bn (n_X3_takesWords S x0 x1) fun _ S1 =>
  (gR S1 x0 15 25).bind fun v3 =>
  (gR S1 x0 15 7).bind fun v4 =>
  (aI S1 v4 0 x1).bind fun v5 =>
  (sI S1 v3 0 x1 v5).bind fun S6 =>
  (gR S6 x0 15 26).bind fun v7 =>
  (gI S6 x0 15 44).bind fun v8 =>
  (sI S6 v7 0 x1 v8).bind fun S9 =>
  n_X3_reads_b29 FU S9 x0 x1 (0 : Int32)
theorem w_X3_reads_b29 {K : KT} {r : Unit} {S1 : St} (C : GC K RX3 cX3_reads 3 3 []) (E : EH (kΓ K) (kHI K) (kl K)) (Q : GQ K none (.inl none) S1) : ∀ (n : Nat) (S : St) (x0 : Option Nat) (x1 : Int32) (x2 : Int32), n_X3_reads_b29 n S x0 x1 x2 = some (r, S1) → G K 3 S 29 [(0, vR x0), (1, vI x1), (2, vI x2)] [] := by
  intro n
  induction n with
  | zero => intro S x0 x1 x2 hd; cases hd
  | succ n ih =>
    intro S x0 x1 x2 hd
    unfold n_X3_reads_b29 at hd
    refine g_iload_n C dX3_reads_29 rfl 2 rfl ?_
    refine g_aload_n C dX3_reads_30 rfl 0 rfl ?_
    obtain ⟨v1, hv1, hd⟩ := Option.bind_eq_some_iff.mp hd
    refine g_fld C gk_X3 (k := 44) (by decide) q2010 (Or.inl rfl) dX3_reads_31 (gI_v hv1) ?_
    refine g_icmp_ge (tgt := 60) C dX3_reads_34 (by decide) hd (fun hd => ?_) (fun hd => ?_)
    · refine g_aload_n C dX3_reads_60 rfl 0 rfl ?_
      refine g_iload_n C dX3_reads_61 rfl 1 rfl ?_
      obtain ⟨hg, hd⟩ := gd_some hd
      obtain ⟨_, S2, hc, hd⟩ := bn_some hd
      refine g_cV_n (n := 1) C (gk_X3).1 q2284 q2286 qs76 q108 q2287 (by decide +kernel) (by decide) (by decide) dX3_reads_62 (As := [vI x1]) (rest := []) rfl rfl (Nat.le_of_ble_eq_true rfl) hg (m_X3_kills E hc) ?_
      refine g_aload_n C dX3_reads_65 rfl 0 rfl ?_
      obtain ⟨v4, hv4, hd⟩ := Option.bind_eq_some_iff.mp hd
      refine g_fld C gk_X3 (k := 42) (by decide) q2008 (Or.inl rfl) dX3_reads_66 (gR_v hv4) ?_
      refine g_iload_n C dX3_reads_69 rfl 1 rfl ?_
      refine g_iconst (v := 1) C dX3_reads_70 (by decide) ?_
      obtain ⟨S5, hS5, hd⟩ := Option.bind_eq_some_iff.mp hd
      refine g_zastV C dX3_reads_71 hS5 ?_
      exact g_vret C Q hd dX3_reads_72
    · refine g_aload_n C dX3_reads_37 rfl 0 rfl ?_
      obtain ⟨v6, hv6, hd⟩ := Option.bind_eq_some_iff.mp hd
      refine g_fld C gk_X3 (k := 27) (by decide) q1993 (Or.inl rfl) dX3_reads_38 (gR_v hv6) ?_
      refine g_bipush (v := 20) C dX3_reads_41 (by decide) ?_
      refine g_iload_n C dX3_reads_43 rfl 1 rfl ?_
      refine g_imul C dX3_reads_44 ?_
      refine g_iload_n C dX3_reads_45 rfl 2 rfl ?_
      refine g_iadd C dX3_reads_46 ?_
      refine g_aload_n C dX3_reads_47 rfl 0 rfl ?_
      obtain ⟨v7, hv7, hd⟩ := Option.bind_eq_some_iff.mp hd
      refine g_fld C gk_X3 (k := 45) (by decide) q2011 (Or.inl rfl) dX3_reads_48 (gR_v hv7) ?_
      refine g_iload_n C dX3_reads_51 rfl 2 rfl ?_
      obtain ⟨v8, hv8, hd⟩ := Option.bind_eq_some_iff.mp hd
      refine g_ialdV C dX3_reads_52 hv8 ?_
      obtain ⟨S9, hS9, hd⟩ := Option.bind_eq_some_iff.mp hd
      refine g_iastV C dX3_reads_53 hS9 ?_
      refine g_iinc (v := x2 + 1) (L' := [(2, vI (x2 + 1)), (0, vR x0), (1, vI x1)]) C dX3_reads_54 2 rfl rfl (by decide) rfl ?_
      refine g_goto (tgt := 29) C dX3_reads_57 (by decide) ?_
      refine g_sub [1, 2, 0] rfl ?_
      exact ih _ _ _ _ hd
theorem w_X3_reads_b0m {K : KT} {r : Unit} {S1 : St} (C : GC K RX3 cX3_reads 3 3 []) (E : EH (kΓ K) (kHI K) (kl K)) (Q : GQ K none (.inl none) S1) : ∀ (S : St) (x0 : Option Nat) (x1 : Int32), n_X3_reads S x0 x1 = some (r, S1) → G K 3 S 0 [(0, vR x0), (1, vI x1)] [] := by
  intro S x0 x1 hd
  unfold n_X3_reads at hd
  refine g_aload_n C dX3_reads_0 rfl 0 rfl ?_
  refine g_iload_n C dX3_reads_1 rfl 1 rfl ?_
  obtain ⟨hg, hd⟩ := gd_some hd
  obtain ⟨_, S1, hc, hd⟩ := bn_some hd
  refine g_cV_n (n := 1) C (gk_X3).1 q2296 q2298 qs79 q108 q2299 (by decide +kernel) (by decide) (by decide) dX3_reads_2 (As := [vI x1]) (rest := []) rfl rfl (Nat.le_of_ble_eq_true rfl) hg (m_X3_takesWords E hc) ?_
  refine g_aload_n C dX3_reads_5 rfl 0 rfl ?_
  obtain ⟨v3, hv3, hd⟩ := Option.bind_eq_some_iff.mp hd
  refine g_fld C gk_X3 (k := 25) (by decide) q1991 (Or.inl rfl) dX3_reads_6 (gR_v hv3) ?_
  refine g_iload_n C dX3_reads_9 rfl 1 rfl ?_
  refine g_aload_n C dX3_reads_10 rfl 0 rfl ?_
  obtain ⟨v4, hv4, hd⟩ := Option.bind_eq_some_iff.mp hd
  refine g_fld C gk_X3 (k := 7) (by decide) q1973 (Or.inl rfl) dX3_reads_11 (gR_v hv4) ?_
  refine g_iload_n C dX3_reads_14 rfl 1 rfl ?_
  obtain ⟨v5, hv5, hd⟩ := Option.bind_eq_some_iff.mp hd
  refine g_ialdV C dX3_reads_15 hv5 ?_
  obtain ⟨S6, hS6, hd⟩ := Option.bind_eq_some_iff.mp hd
  refine g_iastV C dX3_reads_16 hS6 ?_
  refine g_aload_n C dX3_reads_17 rfl 0 rfl ?_
  obtain ⟨v7, hv7, hd⟩ := Option.bind_eq_some_iff.mp hd
  refine g_fld C gk_X3 (k := 26) (by decide) q1992 (Or.inl rfl) dX3_reads_18 (gR_v hv7) ?_
  refine g_iload_n C dX3_reads_21 rfl 1 rfl ?_
  refine g_aload_n C dX3_reads_22 rfl 0 rfl ?_
  obtain ⟨v8, hv8, hd⟩ := Option.bind_eq_some_iff.mp hd
  refine g_fld C gk_X3 (k := 44) (by decide) q2010 (Or.inl rfl) dX3_reads_23 (gI_v hv8) ?_
  obtain ⟨S9, hS9, hd⟩ := Option.bind_eq_some_iff.mp hd
  refine g_iastV C dX3_reads_26 hS9 ?_
  refine g_iconst (v := 0) C dX3_reads_27 (by decide) ?_
  refine g_istore_n (L' := [(2, vI (0 : Int32)), (0, vR x0), (1, vI x1)]) C dX3_reads_28 rfl (by decide) rfl ?_
  refine g_sub [1, 2, 0] rfl ?_
  exact w_X3_reads_b29 C E Q FU _ _ _ _ hd
theorem m_X3_reads {Γ : GG} {HI : St → Heap → Prop} {l : Launch} (E : EH Γ HI l) {S : St} {a0 : Option Nat} {a1 : Int32} {r : Unit} {S1 : St} (h : n_X3_reads S a0 a1 = some (r, S1)) : MS Γ HI l yX3_reads cX3_reads 3 none 3 S [vR a0, vI a1] (.inl none) S1 := by
  refine MS_of E.ntr E.hx (by decide +kernel) rfl (Nat.le_of_ble_eq_true rfl) fun K e1 e2 e3 e4 hnm C Q => ?_
  subst e1; subst e2; subst e3
  exact w_X3_reads_b0m C E Q S a0 a1 h

def n_X3_takesAct_b12 : Nat → St → Option Nat → Int32 → Option (Unit × St)
  | 0 => fun _ _ _ => none
  | n + 1 => fun S x0 x2 =>
    (gI S x0 15 30).bind fun v1 =>
    if v1 ≤ x2 then
      some ((), S)
    else
      (gR S x0 15 31).bind fun v2 =>
      (gR S x0 15 31).bind fun v3 =>
      (aI S v3 0 (x2 + (1 : Int32))).bind fun v4 =>
      (sI S v2 0 x2 v4).bind fun S5 =>
      (gR S5 x0 15 32).bind fun v6 =>
      (gR S5 x0 15 32).bind fun v7 =>
      (aI S5 v7 0 (x2 + (1 : Int32))).bind fun v8 =>
      (sI S5 v6 0 x2 v8).bind fun S9 =>
      (gR S9 x0 15 33).bind fun v10 =>
      (gR S9 x0 15 33).bind fun v11 =>
      (aI S9 v11 1 (x2 + (1 : Int32))).bind fun v12 =>
      (sI S9 v10 1 x2 v12).bind fun S13 =>
      (n_X3_takesAct_b12 n) S13 x0 (x2 + 1)
def n_X3_takesAct (S : St) (x0 : Option Nat) (x1 : Int32) : Option (Unit × St) :=
  (gI S x0 15 30).bind fun v1 =>
  (pI .int S x0 15 30 (v1 - (1 : Int32))).bind fun S2 =>
  n_X3_takesAct_b12 FU S2 x0 x1
theorem w_X3_takesAct_b12 {K : KT} {r : Unit} {S1 : St} (C : GC K RX3 cX3_takesAct 3 2 []) (E : EH (kΓ K) (kHI K) (kl K)) (Q : GQ K none (.inl none) S1) : ∀ (n : Nat) (S : St) (x0 : Option Nat) (x2 : Int32), n_X3_takesAct_b12 n S x0 x2 = some (r, S1) → G K 3 S 12 [(0, vR x0), (2, vI x2)] [] := by
  intro n
  induction n with
  | zero => intro S x0 x2 hd; cases hd
  | succ n ih =>
    intro S x0 x2 hd
    unfold n_X3_takesAct_b12 at hd
    refine g_iload_n C dX3_takesAct_12 rfl 1 rfl ?_
    refine g_aload_n C dX3_takesAct_13 rfl 0 rfl ?_
    obtain ⟨v1, hv1, hd⟩ := Option.bind_eq_some_iff.mp hd
    refine g_fld C gk_X3 (k := 30) (by decide) q1996 (Or.inl rfl) dX3_takesAct_14 (gI_v hv1) ?_
    refine g_icmp_ge (tgt := 68) C dX3_takesAct_17 (by decide) hd (fun hd => ?_) (fun hd => ?_)
    · exact g_vret C Q hd dX3_takesAct_68
    · refine g_aload_n C dX3_takesAct_20 rfl 0 rfl ?_
      obtain ⟨v2, hv2, hd⟩ := Option.bind_eq_some_iff.mp hd
      refine g_fld C gk_X3 (k := 31) (by decide) q1997 (Or.inl rfl) dX3_takesAct_21 (gR_v hv2) ?_
      refine g_iload_n C dX3_takesAct_24 rfl 1 rfl ?_
      refine g_aload_n C dX3_takesAct_25 rfl 0 rfl ?_
      obtain ⟨v3, hv3, hd⟩ := Option.bind_eq_some_iff.mp hd
      refine g_fld C gk_X3 (k := 31) (by decide) q1997 (Or.inl rfl) dX3_takesAct_26 (gR_v hv3) ?_
      refine g_iload_n C dX3_takesAct_29 rfl 1 rfl ?_
      refine g_iconst (v := 1) C dX3_takesAct_30 (by decide) ?_
      refine g_iadd C dX3_takesAct_31 ?_
      obtain ⟨v4, hv4, hd⟩ := Option.bind_eq_some_iff.mp hd
      refine g_ialdV C dX3_takesAct_32 hv4 ?_
      obtain ⟨S5, hS5, hd⟩ := Option.bind_eq_some_iff.mp hd
      refine g_iastV C dX3_takesAct_33 hS5 ?_
      refine g_aload_n C dX3_takesAct_34 rfl 0 rfl ?_
      obtain ⟨v6, hv6, hd⟩ := Option.bind_eq_some_iff.mp hd
      refine g_fld C gk_X3 (k := 32) (by decide) q1998 (Or.inl rfl) dX3_takesAct_35 (gR_v hv6) ?_
      refine g_iload_n C dX3_takesAct_38 rfl 1 rfl ?_
      refine g_aload_n C dX3_takesAct_39 rfl 0 rfl ?_
      obtain ⟨v7, hv7, hd⟩ := Option.bind_eq_some_iff.mp hd
      refine g_fld C gk_X3 (k := 32) (by decide) q1998 (Or.inl rfl) dX3_takesAct_40 (gR_v hv7) ?_
      refine g_iload_n C dX3_takesAct_43 rfl 1 rfl ?_
      refine g_iconst (v := 1) C dX3_takesAct_44 (by decide) ?_
      refine g_iadd C dX3_takesAct_45 ?_
      obtain ⟨v8, hv8, hd⟩ := Option.bind_eq_some_iff.mp hd
      refine g_ialdV C dX3_takesAct_46 hv8 ?_
      obtain ⟨S9, hS9, hd⟩ := Option.bind_eq_some_iff.mp hd
      refine g_iastV C dX3_takesAct_47 hS9 ?_
      refine g_aload_n C dX3_takesAct_48 rfl 0 rfl ?_
      obtain ⟨v10, hv10, hd⟩ := Option.bind_eq_some_iff.mp hd
      refine g_fld C gk_X3 (k := 33) (by decide) q1999 (Or.inl rfl) dX3_takesAct_49 (gR_v hv10) ?_
      refine g_iload_n C dX3_takesAct_52 rfl 1 rfl ?_
      refine g_aload_n C dX3_takesAct_53 rfl 0 rfl ?_
      obtain ⟨v11, hv11, hd⟩ := Option.bind_eq_some_iff.mp hd
      refine g_fld C gk_X3 (k := 33) (by decide) q1999 (Or.inl rfl) dX3_takesAct_54 (gR_v hv11) ?_
      refine g_iload_n C dX3_takesAct_57 rfl 1 rfl ?_
      refine g_iconst (v := 1) C dX3_takesAct_58 (by decide) ?_
      refine g_iadd C dX3_takesAct_59 ?_
      obtain ⟨v12, hv12, hd⟩ := Option.bind_eq_some_iff.mp hd
      refine g_zaldV C dX3_takesAct_60 hv12 ?_
      obtain ⟨S13, hS13, hd⟩ := Option.bind_eq_some_iff.mp hd
      refine g_zastV C dX3_takesAct_61 hS13 ?_
      refine g_iinc (v := x2 + 1) (L' := [(2, vI (x2 + 1)), (0, vR x0)]) C dX3_takesAct_62 1 rfl rfl (by decide) rfl ?_
      refine g_goto (tgt := 12) C dX3_takesAct_65 (by decide) ?_
      refine g_sub [1, 0] rfl ?_
      exact ih _ _ _ hd
theorem w_X3_takesAct_b0m {K : KT} {r : Unit} {S1 : St} (C : GC K RX3 cX3_takesAct 3 2 []) (E : EH (kΓ K) (kHI K) (kl K)) (Q : GQ K none (.inl none) S1) : ∀ (S : St) (x0 : Option Nat) (x1 : Int32), n_X3_takesAct S x0 x1 = some (r, S1) → G K 3 S 0 [(0, vR x0), (1, vI x1)] [] := by
  intro S x0 x1 hd
  unfold n_X3_takesAct at hd
  refine g_aload_n C dX3_takesAct_0 rfl 0 rfl ?_
  refine g_dup C dX3_takesAct_1 rfl ?_
  obtain ⟨v1, hv1, hd⟩ := Option.bind_eq_some_iff.mp hd
  refine g_fld C gk_X3 (k := 30) (by decide) q1996 (Or.inl rfl) dX3_takesAct_2 (gI_v hv1) ?_
  refine g_iconst (v := 1) C dX3_takesAct_5 (by decide) ?_
  refine g_isub C dX3_takesAct_6 ?_
  obtain ⟨S2, hS2, hd⟩ := Option.bind_eq_some_iff.mp hd
  refine g_put C gk_X3 (k := 30) (by decide) q1996 (Or.inl rfl) rfl dX3_takesAct_7 (gfit_ok (pI_v hS2).1).1 (gfit_ok (pI_v hS2).1).2 (pI_v hS2).2 ?_
  refine g_iload_n C dX3_takesAct_10 rfl 1 rfl ?_
  refine g_istore_n (L' := [(2, vI x1), (0, vR x0), (1, vI x1)]) C dX3_takesAct_11 rfl (by decide) rfl ?_
  refine g_sub [1, 0] rfl ?_
  exact w_X3_takesAct_b12 C E Q FU _ _ _ hd
theorem m_X3_takesAct {Γ : GG} {HI : St → Heap → Prop} {l : Launch} (E : EH Γ HI l) {S : St} {a0 : Option Nat} {a1 : Int32} {r : Unit} {S1 : St} (h : n_X3_takesAct S a0 a1 = some (r, S1)) : MS Γ HI l yX3_takesAct cX3_takesAct 3 none 2 S [vR a0, vI a1] (.inl none) S1 := by
  refine MS_of E.ntr E.hx (by decide +kernel) rfl (Nat.le_of_ble_eq_true rfl) fun K e1 e2 e3 e4 hnm C Q => ?_
  subst e1; subst e2; subst e3
  exact w_X3_takesAct_b0m C E Q S a0 a1 h

def n_X3_liesBelow_b70 (k23 : St → Option Nat → Int32 → Int32 → Int32 → Option (Int32 × St)) (S : St) (x0 : Option Nat) (x2 : Int32) (x4 : Int32) (y0 : Int32) : Option (Int32 × St) :=
  k23 S x0 x2 y0 (x4 + 1)
def n_X3_liesBelow_b69 (k23 : St → Option Nat → Int32 → Int32 → Int32 → Option (Int32 × St)) (S : St) (x0 : Option Nat) (x2 : Int32) (x4 : Int32) : Option (Int32 × St) :=
  n_X3_liesBelow_b70 k23 S x0 x2 x4 (-1 : Int32)
def n_X3_liesBelow_b23 : Nat → St → Option Nat → Int32 → Int32 → Int32 → Option (Int32 × St)
  | 0 => fun _ _ _ _ _ => none
  | n + 1 => fun S x0 x2 x3 x4 =>
    if (60 : Int32) ≤ x4 then
      rtI id (Jvm.ClassFile.FieldType.boolean) (0 : Int32) S
    else
      if x3 = (-1 : Int32) then
        rtI id (Jvm.ClassFile.FieldType.boolean) (0 : Int32) S
      else
        if x3 = x2 then
          rtI id (Jvm.ClassFile.FieldType.boolean) (1 : Int32) S
        else
          gd (grc S x0 15) <|
          bn (n_X3_rootAt S x0 x3) fun v2 S1 =>
          if v2 = (-1 : Int32) then
            (gR S1 x0 15 22).bind fun v3 =>
            (aI S1 v3 1 x3).bind fun v4 =>
            if v4 = 0 then
              n_X3_liesBelow_b69 (n_X3_liesBelow_b23 n) S1 x0 x2 x4
            else
              (gR S1 x0 15 23).bind fun v5 =>
              (aI S1 v5 0 x3).bind fun v6 =>
              n_X3_liesBelow_b70 (n_X3_liesBelow_b23 n) S1 x0 x2 x4 v6
          else
            n_X3_liesBelow_b69 (n_X3_liesBelow_b23 n) S1 x0 x2 x4
def n_X3_liesBelow_b19 (S : St) (x0 : Option Nat) (x2 : Int32) (y0 : Int32) : Option (Int32 × St) :=
  n_X3_liesBelow_b23 FU S x0 x2 y0 (0 : Int32)
def n_X3_liesBelow (S : St) (x0 : Option Nat) (x1 : Int32) (x2 : Int32) : Option (Int32 × St) :=
  (gR S x0 15 22).bind fun v1 =>
  (aI S v1 1 x1).bind fun v2 =>
  if v2 = 0 then
    n_X3_liesBelow_b19 S x0 x2 (-1 : Int32)
  else
    (gR S x0 15 23).bind fun v3 =>
    (aI S v3 0 x1).bind fun v4 =>
    n_X3_liesBelow_b19 S x0 x2 v4
theorem w_X3_liesBelow_b70 {K : KT} {r : Int32} {S1 : St} (C : GC K RX3 cX3_liesBelow 5 3 []) (E : EH (kΓ K) (kHI K) (kl K)) (Q : GQ K (some (Jvm.ClassFile.FieldType.boolean)) (.inl (some (vI r))) S1) {k23 : St → Option Nat → Int32 → Int32 → Int32 → Option (Int32 × St)} (h23 : ∀ (S : St) (x0 : Option Nat) (x2 : Int32) (x3 : Int32) (x4 : Int32), k23 S x0 x2 x3 x4 = some (r, S1) → G K 5 S 23 [(0, vR x0), (2, vI x2), (3, vI x3), (4, vI x4)] []) : ∀ (S : St) (x0 : Option Nat) (x2 : Int32) (x4 : Int32) (y0 : Int32), n_X3_liesBelow_b70 k23 S x0 x2 x4 y0 = some (r, S1) → G K 5 S 70 [(0, vR x0), (2, vI x2), (4, vI x4)] [vI y0] := by
  intro S x0 x2 x4 y0 hd
  unfold n_X3_liesBelow_b70 at hd
  refine g_istore_n (L' := [(3, vI y0), (0, vR x0), (2, vI x2), (4, vI x4)]) C dX3_liesBelow_70 rfl (by decide) rfl ?_
  refine g_iinc (v := x4 + 1) (L' := [(4, vI (x4 + 1)), (3, vI y0), (0, vR x0), (2, vI x2)]) C dX3_liesBelow_71 3 rfl rfl (by decide) rfl ?_
  refine g_goto (tgt := 23) C dX3_liesBelow_74 (by decide) ?_
  refine g_sub [2, 3, 1, 0] rfl ?_
  exact h23 _ _ _ _ _ hd
theorem w_X3_liesBelow_b69 {K : KT} {r : Int32} {S1 : St} (C : GC K RX3 cX3_liesBelow 5 3 []) (E : EH (kΓ K) (kHI K) (kl K)) (Q : GQ K (some (Jvm.ClassFile.FieldType.boolean)) (.inl (some (vI r))) S1) {k23 : St → Option Nat → Int32 → Int32 → Int32 → Option (Int32 × St)} (h23 : ∀ (S : St) (x0 : Option Nat) (x2 : Int32) (x3 : Int32) (x4 : Int32), k23 S x0 x2 x3 x4 = some (r, S1) → G K 5 S 23 [(0, vR x0), (2, vI x2), (3, vI x3), (4, vI x4)] []) : ∀ (S : St) (x0 : Option Nat) (x2 : Int32) (x4 : Int32), n_X3_liesBelow_b69 k23 S x0 x2 x4 = some (r, S1) → G K 5 S 69 [(0, vR x0), (2, vI x2), (4, vI x4)] [] := by
  intro S x0 x2 x4 hd
  unfold n_X3_liesBelow_b69 at hd
  refine g_iconst (v := (-1)) C dX3_liesBelow_69 (by decide) ?_
  refine g_sub [0, 1, 2] rfl ?_
  exact w_X3_liesBelow_b70 C E Q h23 _ _ _ _ _ hd
theorem w_X3_liesBelow_b23 {K : KT} {r : Int32} {S1 : St} (C : GC K RX3 cX3_liesBelow 5 3 []) (E : EH (kΓ K) (kHI K) (kl K)) (Q : GQ K (some (Jvm.ClassFile.FieldType.boolean)) (.inl (some (vI r))) S1) : ∀ (n : Nat) (S : St) (x0 : Option Nat) (x2 : Int32) (x3 : Int32) (x4 : Int32), n_X3_liesBelow_b23 n S x0 x2 x3 x4 = some (r, S1) → G K 5 S 23 [(0, vR x0), (2, vI x2), (3, vI x3), (4, vI x4)] [] := by
  intro n
  induction n with
  | zero => intro S x0 x2 x3 x4 hd; cases hd
  | succ n ih =>
    intro S x0 x2 x3 x4 hd
    unfold n_X3_liesBelow_b23 at hd
    refine g_iload C dX3_liesBelow_23 3 rfl ?_
    refine g_bipush (v := 60) C dX3_liesBelow_25 (by decide) ?_
    refine g_icmp_ge (tgt := 77) C dX3_liesBelow_27 (by decide) hd (fun hd => ?_) (fun hd => ?_)
    · refine g_iconst (v := 0) C dX3_liesBelow_77 (by decide) ?_
      exact g_iret C Q hd dX3_liesBelow_78
    · refine g_iload_n C dX3_liesBelow_30 rfl 2 rfl ?_
      refine g_iconst (v := (-1)) C dX3_liesBelow_31 (by decide) ?_
      refine g_icmp_eq (tgt := 77) C dX3_liesBelow_32 (by decide) hd (fun hd => ?_) (fun hd => ?_)
      · refine g_iconst (v := 0) C dX3_liesBelow_77 (by decide) ?_
        exact g_iret C Q hd dX3_liesBelow_78
      · refine g_iload_n C dX3_liesBelow_35 rfl 2 rfl ?_
        refine g_iload_n C dX3_liesBelow_36 rfl 1 rfl ?_
        refine g_icmp_ne (tgt := 42) C dX3_liesBelow_37 (by decide) hd (fun hd => ?_) (fun hd => ?_)
        · refine g_aload_n C dX3_liesBelow_42 rfl 0 rfl ?_
          refine g_iload_n C dX3_liesBelow_43 rfl 2 rfl ?_
          obtain ⟨hg, hd⟩ := gd_some hd
          obtain ⟨v2, S1, hc, hd⟩ := bn_some hd
          refine g_cV_v (n := 1) C (gk_X3).1 q2167 q2169 qs60 q108 q2170 (by decide +kernel) (by decide) (by decide) dX3_liesBelow_44 (As := [vI x3]) (rest := []) rfl rfl (Nat.le_of_ble_eq_true rfl) hg (m_X3_rootAt E hc) ?_
          refine g_iconst (v := (-1)) C dX3_liesBelow_47 (by decide) ?_
          refine g_icmp_ne (tgt := 69) C dX3_liesBelow_48 (by decide) hd (fun hd => ?_) (fun hd => ?_)
          · refine g_sub [0, 1, 3] rfl ?_
            exact w_X3_liesBelow_b69 C E Q ih _ _ _ _ hd
          · refine g_aload_n C dX3_liesBelow_51 rfl 0 rfl ?_
            obtain ⟨v3, hv3, hd⟩ := Option.bind_eq_some_iff.mp hd
            refine g_fld C gk_X3 (k := 22) (by decide) q1988 (Or.inl rfl) dX3_liesBelow_52 (gR_v hv3) ?_
            refine g_iload_n C dX3_liesBelow_55 rfl 2 rfl ?_
            obtain ⟨v4, hv4, hd⟩ := Option.bind_eq_some_iff.mp hd
            refine g_zaldV C dX3_liesBelow_56 hv4 ?_
            refine g_if_eq (tgt := 69) C dX3_liesBelow_57 (by decide) hd (fun hd => ?_) (fun hd => ?_)
            · refine g_sub [0, 1, 3] rfl ?_
              exact w_X3_liesBelow_b69 C E Q ih _ _ _ _ hd
            · refine g_aload_n C dX3_liesBelow_60 rfl 0 rfl ?_
              obtain ⟨v5, hv5, hd⟩ := Option.bind_eq_some_iff.mp hd
              refine g_fld C gk_X3 (k := 23) (by decide) q1989 (Or.inl rfl) dX3_liesBelow_61 (gR_v hv5) ?_
              refine g_iload_n C dX3_liesBelow_64 rfl 2 rfl ?_
              obtain ⟨v6, hv6, hd⟩ := Option.bind_eq_some_iff.mp hd
              refine g_ialdV C dX3_liesBelow_65 hv6 ?_
              refine g_goto (tgt := 70) C dX3_liesBelow_66 (by decide) ?_
              refine g_sub [0, 1, 3] rfl ?_
              exact w_X3_liesBelow_b70 C E Q ih _ _ _ _ _ hd
        · refine g_iconst (v := 1) C dX3_liesBelow_40 (by decide) ?_
          exact g_iret C Q hd dX3_liesBelow_41
theorem w_X3_liesBelow_b19 {K : KT} {r : Int32} {S1 : St} (C : GC K RX3 cX3_liesBelow 5 3 []) (E : EH (kΓ K) (kHI K) (kl K)) (Q : GQ K (some (Jvm.ClassFile.FieldType.boolean)) (.inl (some (vI r))) S1) : ∀ (S : St) (x0 : Option Nat) (x2 : Int32) (y0 : Int32), n_X3_liesBelow_b19 S x0 x2 y0 = some (r, S1) → G K 5 S 19 [(0, vR x0), (2, vI x2)] [vI y0] := by
  intro S x0 x2 y0 hd
  unfold n_X3_liesBelow_b19 at hd
  refine g_istore_n (L' := [(3, vI y0), (0, vR x0), (2, vI x2)]) C dX3_liesBelow_19 rfl (by decide) rfl ?_
  refine g_iconst (v := 0) C dX3_liesBelow_20 (by decide) ?_
  refine g_istore (L' := [(4, vI (0 : Int32)), (3, vI y0), (0, vR x0), (2, vI x2)]) C dX3_liesBelow_21 (by decide) rfl ?_
  refine g_sub [2, 3, 1, 0] rfl ?_
  exact w_X3_liesBelow_b23 C E Q FU _ _ _ _ _ hd
theorem w_X3_liesBelow_b0m {K : KT} {r : Int32} {S1 : St} (C : GC K RX3 cX3_liesBelow 5 3 []) (E : EH (kΓ K) (kHI K) (kl K)) (Q : GQ K (some (Jvm.ClassFile.FieldType.boolean)) (.inl (some (vI r))) S1) : ∀ (S : St) (x0 : Option Nat) (x1 : Int32) (x2 : Int32), n_X3_liesBelow S x0 x1 x2 = some (r, S1) → G K 5 S 0 [(0, vR x0), (1, vI x1), (2, vI x2)] [] := by
  intro S x0 x1 x2 hd
  unfold n_X3_liesBelow at hd
  refine g_aload_n C dX3_liesBelow_0 rfl 0 rfl ?_
  obtain ⟨v1, hv1, hd⟩ := Option.bind_eq_some_iff.mp hd
  refine g_fld C gk_X3 (k := 22) (by decide) q1988 (Or.inl rfl) dX3_liesBelow_1 (gR_v hv1) ?_
  refine g_iload_n C dX3_liesBelow_4 rfl 1 rfl ?_
  obtain ⟨v2, hv2, hd⟩ := Option.bind_eq_some_iff.mp hd
  refine g_zaldV C dX3_liesBelow_5 hv2 ?_
  refine g_if_eq (tgt := 18) C dX3_liesBelow_6 (by decide) hd (fun hd => ?_) (fun hd => ?_)
  · refine g_iconst (v := (-1)) C dX3_liesBelow_18 (by decide) ?_
    refine g_sub [0, 2] rfl ?_
    exact w_X3_liesBelow_b19 C E Q _ _ _ _ hd
  · refine g_aload_n C dX3_liesBelow_9 rfl 0 rfl ?_
    obtain ⟨v3, hv3, hd⟩ := Option.bind_eq_some_iff.mp hd
    refine g_fld C gk_X3 (k := 23) (by decide) q1989 (Or.inl rfl) dX3_liesBelow_10 (gR_v hv3) ?_
    refine g_iload_n C dX3_liesBelow_13 rfl 1 rfl ?_
    obtain ⟨v4, hv4, hd⟩ := Option.bind_eq_some_iff.mp hd
    refine g_ialdV C dX3_liesBelow_14 hv4 ?_
    refine g_goto (tgt := 19) C dX3_liesBelow_15 (by decide) ?_
    refine g_sub [0, 2] rfl ?_
    exact w_X3_liesBelow_b19 C E Q _ _ _ _ hd
theorem m_X3_liesBelow {Γ : GG} {HI : St → Heap → Prop} {l : Launch} (E : EH Γ HI l) {S : St} {a0 : Option Nat} {a1 : Int32} {a2 : Int32} {r : Int32} {S1 : St} (h : n_X3_liesBelow S a0 a1 a2 = some (r, S1)) : MS Γ HI l yX3_liesBelow cX3_liesBelow 5 (some (Jvm.ClassFile.FieldType.boolean)) 3 S [vR a0, vI a1, vI a2] (.inl (some (vI r))) S1 := by
  refine MS_of E.ntr E.hx (by decide +kernel) rfl (Nat.le_of_ble_eq_true rfl) fun K e1 e2 e3 e4 hnm C Q => ?_
  subst e1; subst e2; subst e3
  exact w_X3_liesBelow_b0m C E Q S a0 a1 a2 h

def n_X3_forgets_b43 (k2 : St → Option Nat → Int32 → Int32 → Option (Unit × St)) (S : St) (x0 : Option Nat) (x1 : Int32) (x2 : Int32) (y0 : Int32) (y1 : Int32) (y2 : Option Nat) : Option (Unit × St) :=
  (sI S y2 1 y1 y0).bind fun S1 =>
  k2 S1 x0 x1 (x2 + 1)
def n_X3_forgets_b38 (k2 : St → Option Nat → Int32 → Int32 → Option (Unit × St)) (S : St) (x0 : Option Nat) (x1 : Int32) (x2 : Int32) (y0 : Int32) (y1 : Option Nat) : Option (Unit × St) :=
  n_X3_forgets_b43 k2 S x0 x1 x2 (1 : Int32) y0 y1
def n_X3_forgets_b42 (k2 : St → Option Nat → Int32 → Int32 → Option (Unit × St)) (S : St) (x0 : Option Nat) (x1 : Int32) (x2 : Int32) (y0 : Int32) (y1 : Option Nat) : Option (Unit × St) :=
  n_X3_forgets_b43 k2 S x0 x1 x2 (0 : Int32) y0 y1
def n_X3_forgets_b88 (k52 : St → Option Nat → Int32 → Option (Unit × St)) (S : St) (x0 : Option Nat) (x2 : Int32) : Option (Unit × St) :=
  k52 S x0 (x2 + 1)
def n_X3_forgets_b52 : Nat → St → Option Nat → Int32 → Option (Unit × St)
  | 0 => fun _ _ _ => none
  | n + 1 => fun S x0 x2 =>
    (gI S x0 15 2).bind fun v1 =>
    if v1 ≤ x2 then
      some ((), S)
    else
      (gR S x0 15 43).bind fun v2 =>
      (aI S v2 1 x2).bind fun v3 =>
      if v3 = 0 then
        n_X3_forgets_b88 (n_X3_forgets_b52 n) S x0 x2
      else
        (gR S x0 15 22).bind fun v4 =>
        (sI S v4 1 x2 (0 : Int32)).bind fun S5 =>
        (gR S5 x0 15 42).bind fun v6 =>
        (sI S5 v6 1 x2 (0 : Int32)).bind fun S7 =>
        gd (grc S7 x0 15) <|
        bn (n_X3_kills S7 x0 x2) fun _ S8 =>
        n_X3_forgets_b88 (n_X3_forgets_b52 n) S8 x0 x2
def n_X3_forgets_b2 : Nat → St → Option Nat → Int32 → Int32 → Option (Unit × St)
  | 0 => fun _ _ _ _ => none
  | n + 1 => fun S x0 x1 x2 =>
    (gI S x0 15 2).bind fun v1 =>
    if v1 ≤ x2 then
      n_X3_forgets_b52 FU S x0 (0 : Int32)
    else
      (gR S x0 15 43).bind fun v2 =>
      if x2 = x1 then
        n_X3_forgets_b38 (n_X3_forgets_b2 n) S x0 x1 x2 x2 v2
      else
        gd (grc S x0 15) <|
        bn (n_X3_rootAt S x0 x1) fun v4 S3 =>
        if v4 = (-1 : Int32) then
          gd (grc S3 x0 15) <|
          bn (n_X3_liesBelow S3 x0 x2 x1) fun v6 S5 =>
          if v6 = 0 then
            n_X3_forgets_b42 (n_X3_forgets_b2 n) S5 x0 x1 x2 x2 v2
          else
            n_X3_forgets_b38 (n_X3_forgets_b2 n) S5 x0 x1 x2 x2 v2
        else
          n_X3_forgets_b42 (n_X3_forgets_b2 n) S3 x0 x1 x2 x2 v2
def n_X3_forgets (S : St) (x0 : Option Nat) (x1 : Int32) : Option (Unit × St) :=
  n_X3_forgets_b2 FU S x0 x1 (0 : Int32)
theorem w_X3_forgets_b43 {K : KT} {r : Unit} {S1 : St} (C : GC K RX3 cX3_forgets 3 4 []) (E : EH (kΓ K) (kHI K) (kl K)) (Q : GQ K none (.inl none) S1) {k2 : St → Option Nat → Int32 → Int32 → Option (Unit × St)} (h2 : ∀ (S : St) (x0 : Option Nat) (x1 : Int32) (x2 : Int32), k2 S x0 x1 x2 = some (r, S1) → G K 3 S 2 [(0, vR x0), (1, vI x1), (2, vI x2)] []) : ∀ (S : St) (x0 : Option Nat) (x1 : Int32) (x2 : Int32) (y0 : Int32) (y1 : Int32) (y2 : Option Nat), n_X3_forgets_b43 k2 S x0 x1 x2 y0 y1 y2 = some (r, S1) → G K 3 S 43 [(0, vR x0), (1, vI x1), (2, vI x2)] [vI y0, vI y1, vR y2] := by
  intro S x0 x1 x2 y0 y1 y2 hd
  unfold n_X3_forgets_b43 at hd
  obtain ⟨S1, hS1, hd⟩ := Option.bind_eq_some_iff.mp hd
  refine g_zastV C dX3_forgets_43 hS1 ?_
  refine g_iinc (v := x2 + 1) (L' := [(2, vI (x2 + 1)), (0, vR x0), (1, vI x1)]) C dX3_forgets_44 2 rfl rfl (by decide) rfl ?_
  refine g_goto (tgt := 2) C dX3_forgets_47 (by decide) ?_
  refine g_sub [1, 2, 0] rfl ?_
  exact h2 _ _ _ _ hd
theorem w_X3_forgets_b38 {K : KT} {r : Unit} {S1 : St} (C : GC K RX3 cX3_forgets 3 4 []) (E : EH (kΓ K) (kHI K) (kl K)) (Q : GQ K none (.inl none) S1) {k2 : St → Option Nat → Int32 → Int32 → Option (Unit × St)} (h2 : ∀ (S : St) (x0 : Option Nat) (x1 : Int32) (x2 : Int32), k2 S x0 x1 x2 = some (r, S1) → G K 3 S 2 [(0, vR x0), (1, vI x1), (2, vI x2)] []) : ∀ (S : St) (x0 : Option Nat) (x1 : Int32) (x2 : Int32) (y0 : Int32) (y1 : Option Nat), n_X3_forgets_b38 k2 S x0 x1 x2 y0 y1 = some (r, S1) → G K 3 S 38 [(0, vR x0), (1, vI x1), (2, vI x2)] [vI y0, vR y1] := by
  intro S x0 x1 x2 y0 y1 hd
  unfold n_X3_forgets_b38 at hd
  refine g_iconst (v := 1) C dX3_forgets_38 (by decide) ?_
  refine g_goto (tgt := 43) C dX3_forgets_39 (by decide) ?_
  refine g_sub [0, 1, 2] rfl ?_
  exact w_X3_forgets_b43 C E Q h2 _ _ _ _ _ _ _ hd
theorem w_X3_forgets_b42 {K : KT} {r : Unit} {S1 : St} (C : GC K RX3 cX3_forgets 3 4 []) (E : EH (kΓ K) (kHI K) (kl K)) (Q : GQ K none (.inl none) S1) {k2 : St → Option Nat → Int32 → Int32 → Option (Unit × St)} (h2 : ∀ (S : St) (x0 : Option Nat) (x1 : Int32) (x2 : Int32), k2 S x0 x1 x2 = some (r, S1) → G K 3 S 2 [(0, vR x0), (1, vI x1), (2, vI x2)] []) : ∀ (S : St) (x0 : Option Nat) (x1 : Int32) (x2 : Int32) (y0 : Int32) (y1 : Option Nat), n_X3_forgets_b42 k2 S x0 x1 x2 y0 y1 = some (r, S1) → G K 3 S 42 [(0, vR x0), (1, vI x1), (2, vI x2)] [vI y0, vR y1] := by
  intro S x0 x1 x2 y0 y1 hd
  unfold n_X3_forgets_b42 at hd
  refine g_iconst (v := 0) C dX3_forgets_42 (by decide) ?_
  refine g_sub [0, 1, 2] rfl ?_
  exact w_X3_forgets_b43 C E Q h2 _ _ _ _ _ _ _ hd
theorem w_X3_forgets_b88 {K : KT} {r : Unit} {S1 : St} (C : GC K RX3 cX3_forgets 3 4 []) (E : EH (kΓ K) (kHI K) (kl K)) (Q : GQ K none (.inl none) S1) {k52 : St → Option Nat → Int32 → Option (Unit × St)} (h52 : ∀ (S : St) (x0 : Option Nat) (x2 : Int32), k52 S x0 x2 = some (r, S1) → G K 3 S 52 [(0, vR x0), (2, vI x2)] []) : ∀ (S : St) (x0 : Option Nat) (x2 : Int32), n_X3_forgets_b88 k52 S x0 x2 = some (r, S1) → G K 3 S 88 [(0, vR x0), (2, vI x2)] [] := by
  intro S x0 x2 hd
  unfold n_X3_forgets_b88 at hd
  refine g_iinc (v := x2 + 1) (L' := [(2, vI (x2 + 1)), (0, vR x0)]) C dX3_forgets_88 1 rfl rfl (by decide) rfl ?_
  refine g_goto (tgt := 52) C dX3_forgets_91 (by decide) ?_
  refine g_sub [1, 0] rfl ?_
  exact h52 _ _ _ hd
theorem w_X3_forgets_b52 {K : KT} {r : Unit} {S1 : St} (C : GC K RX3 cX3_forgets 3 4 []) (E : EH (kΓ K) (kHI K) (kl K)) (Q : GQ K none (.inl none) S1) : ∀ (n : Nat) (S : St) (x0 : Option Nat) (x2 : Int32), n_X3_forgets_b52 n S x0 x2 = some (r, S1) → G K 3 S 52 [(0, vR x0), (2, vI x2)] [] := by
  intro n
  induction n with
  | zero => intro S x0 x2 hd; cases hd
  | succ n ih =>
    intro S x0 x2 hd
    unfold n_X3_forgets_b52 at hd
    refine g_iload_n C dX3_forgets_52 rfl 1 rfl ?_
    refine g_aload_n C dX3_forgets_53 rfl 0 rfl ?_
    obtain ⟨v1, hv1, hd⟩ := Option.bind_eq_some_iff.mp hd
    refine g_fld C gk_X3 (k := 2) (by decide) q1968 (Or.inl rfl) dX3_forgets_54 (gI_v hv1) ?_
    refine g_icmp_ge (tgt := 94) C dX3_forgets_57 (by decide) hd (fun hd => ?_) (fun hd => ?_)
    · exact g_vret C Q hd dX3_forgets_94
    · refine g_aload_n C dX3_forgets_60 rfl 0 rfl ?_
      obtain ⟨v2, hv2, hd⟩ := Option.bind_eq_some_iff.mp hd
      refine g_fld C gk_X3 (k := 43) (by decide) q2009 (Or.inl rfl) dX3_forgets_61 (gR_v hv2) ?_
      refine g_iload_n C dX3_forgets_64 rfl 1 rfl ?_
      obtain ⟨v3, hv3, hd⟩ := Option.bind_eq_some_iff.mp hd
      refine g_zaldV C dX3_forgets_65 hv3 ?_
      refine g_if_eq (tgt := 88) C dX3_forgets_66 (by decide) hd (fun hd => ?_) (fun hd => ?_)
      · refine g_sub [0, 1] rfl ?_
        exact w_X3_forgets_b88 C E Q ih _ _ _ hd
      · refine g_aload_n C dX3_forgets_69 rfl 0 rfl ?_
        obtain ⟨v4, hv4, hd⟩ := Option.bind_eq_some_iff.mp hd
        refine g_fld C gk_X3 (k := 22) (by decide) q1988 (Or.inl rfl) dX3_forgets_70 (gR_v hv4) ?_
        refine g_iload_n C dX3_forgets_73 rfl 1 rfl ?_
        refine g_iconst (v := 0) C dX3_forgets_74 (by decide) ?_
        obtain ⟨S5, hS5, hd⟩ := Option.bind_eq_some_iff.mp hd
        refine g_zastV C dX3_forgets_75 hS5 ?_
        refine g_aload_n C dX3_forgets_76 rfl 0 rfl ?_
        obtain ⟨v6, hv6, hd⟩ := Option.bind_eq_some_iff.mp hd
        refine g_fld C gk_X3 (k := 42) (by decide) q2008 (Or.inl rfl) dX3_forgets_77 (gR_v hv6) ?_
        refine g_iload_n C dX3_forgets_80 rfl 1 rfl ?_
        refine g_iconst (v := 0) C dX3_forgets_81 (by decide) ?_
        obtain ⟨S7, hS7, hd⟩ := Option.bind_eq_some_iff.mp hd
        refine g_zastV C dX3_forgets_82 hS7 ?_
        refine g_aload_n C dX3_forgets_83 rfl 0 rfl ?_
        refine g_iload_n C dX3_forgets_84 rfl 1 rfl ?_
        obtain ⟨hg, hd⟩ := gd_some hd
        obtain ⟨_, S8, hc, hd⟩ := bn_some hd
        refine g_cV_n (n := 1) C (gk_X3).1 q2284 q2286 qs76 q108 q2287 (by decide +kernel) (by decide) (by decide) dX3_forgets_85 (As := [vI x2]) (rest := []) rfl rfl (Nat.le_of_ble_eq_true rfl) hg (m_X3_kills E hc) ?_
        refine g_sub [0, 1] rfl ?_
        exact w_X3_forgets_b88 C E Q ih _ _ _ hd
theorem w_X3_forgets_b2 {K : KT} {r : Unit} {S1 : St} (C : GC K RX3 cX3_forgets 3 4 []) (E : EH (kΓ K) (kHI K) (kl K)) (Q : GQ K none (.inl none) S1) : ∀ (n : Nat) (S : St) (x0 : Option Nat) (x1 : Int32) (x2 : Int32), n_X3_forgets_b2 n S x0 x1 x2 = some (r, S1) → G K 3 S 2 [(0, vR x0), (1, vI x1), (2, vI x2)] [] := by
  intro n
  induction n with
  | zero => intro S x0 x1 x2 hd; cases hd
  | succ n ih =>
    intro S x0 x1 x2 hd
    unfold n_X3_forgets_b2 at hd
    refine g_iload_n C dX3_forgets_2 rfl 2 rfl ?_
    refine g_aload_n C dX3_forgets_3 rfl 0 rfl ?_
    obtain ⟨v1, hv1, hd⟩ := Option.bind_eq_some_iff.mp hd
    refine g_fld C gk_X3 (k := 2) (by decide) q1968 (Or.inl rfl) dX3_forgets_4 (gI_v hv1) ?_
    refine g_icmp_ge (tgt := 50) C dX3_forgets_7 (by decide) hd (fun hd => ?_) (fun hd => ?_)
    · refine g_iconst (v := 0) C dX3_forgets_50 (by decide) ?_
      refine g_istore_n (L' := [(2, vI (0 : Int32)), (0, vR x0), (1, vI x1)]) C dX3_forgets_51 rfl (by decide) rfl ?_
      refine g_sub [1, 0] rfl ?_
      exact w_X3_forgets_b52 C E Q FU _ _ _ hd
    · refine g_aload_n C dX3_forgets_10 rfl 0 rfl ?_
      obtain ⟨v2, hv2, hd⟩ := Option.bind_eq_some_iff.mp hd
      refine g_fld C gk_X3 (k := 43) (by decide) q2009 (Or.inl rfl) dX3_forgets_11 (gR_v hv2) ?_
      refine g_iload_n C dX3_forgets_14 rfl 2 rfl ?_
      refine g_iload_n C dX3_forgets_15 rfl 2 rfl ?_
      refine g_iload_n C dX3_forgets_16 rfl 1 rfl ?_
      refine g_icmp_eq (tgt := 38) C dX3_forgets_17 (by decide) hd (fun hd => ?_) (fun hd => ?_)
      · refine g_sub [0, 1, 2] rfl ?_
        exact w_X3_forgets_b38 C E Q ih _ _ _ _ _ _ hd
      · refine g_aload_n C dX3_forgets_20 rfl 0 rfl ?_
        refine g_iload_n C dX3_forgets_21 rfl 1 rfl ?_
        obtain ⟨hg, hd⟩ := gd_some hd
        obtain ⟨v4, S3, hc, hd⟩ := bn_some hd
        refine g_cV_v (n := 1) C (gk_X3).1 q2167 q2169 qs60 q108 q2170 (by decide +kernel) (by decide) (by decide) dX3_forgets_22 (As := [vI x1]) (rest := [vI x2, vR v2]) rfl rfl (Nat.le_of_ble_eq_true rfl) hg (m_X3_rootAt E hc) ?_
        refine g_iconst (v := (-1)) C dX3_forgets_25 (by decide) ?_
        refine g_icmp_ne (tgt := 42) C dX3_forgets_26 (by decide) hd (fun hd => ?_) (fun hd => ?_)
        · refine g_sub [0, 1, 2] rfl ?_
          exact w_X3_forgets_b42 C E Q ih _ _ _ _ _ _ hd
        · refine g_aload_n C dX3_forgets_29 rfl 0 rfl ?_
          refine g_iload_n C dX3_forgets_30 rfl 2 rfl ?_
          refine g_iload_n C dX3_forgets_31 rfl 1 rfl ?_
          obtain ⟨hg, hd⟩ := gd_some hd
          obtain ⟨v6, S5, hc, hd⟩ := bn_some hd
          refine g_cV_v (n := 2) C (gk_X3).1 q2280 q2282 qs75 q108 q2283 (by decide +kernel) (by decide) (by decide) dX3_forgets_32 (As := [vI x2, vI x1]) (rest := [vI x2, vR v2]) rfl rfl (Nat.le_of_ble_eq_true rfl) hg (m_X3_liesBelow E hc) ?_
          refine g_if_eq (tgt := 42) C dX3_forgets_35 (by decide) hd (fun hd => ?_) (fun hd => ?_)
          · refine g_sub [0, 1, 2] rfl ?_
            exact w_X3_forgets_b42 C E Q ih _ _ _ _ _ _ hd
          · refine g_sub [0, 1, 2] rfl ?_
            exact w_X3_forgets_b38 C E Q ih _ _ _ _ _ _ hd
theorem w_X3_forgets_b0m {K : KT} {r : Unit} {S1 : St} (C : GC K RX3 cX3_forgets 3 4 []) (E : EH (kΓ K) (kHI K) (kl K)) (Q : GQ K none (.inl none) S1) : ∀ (S : St) (x0 : Option Nat) (x1 : Int32), n_X3_forgets S x0 x1 = some (r, S1) → G K 3 S 0 [(0, vR x0), (1, vI x1)] [] := by
  intro S x0 x1 hd
  unfold n_X3_forgets at hd
  refine g_iconst (v := 0) C dX3_forgets_0 (by decide) ?_
  refine g_istore_n (L' := [(2, vI (0 : Int32)), (0, vR x0), (1, vI x1)]) C dX3_forgets_1 rfl (by decide) rfl ?_
  refine g_sub [1, 2, 0] rfl ?_
  exact w_X3_forgets_b2 C E Q FU _ _ _ _ hd
theorem m_X3_forgets {Γ : GG} {HI : St → Heap → Prop} {l : Launch} (E : EH Γ HI l) {S : St} {a0 : Option Nat} {a1 : Int32} {r : Unit} {S1 : St} (h : n_X3_forgets S a0 a1 = some (r, S1)) : MS Γ HI l yX3_forgets cX3_forgets 3 none 4 S [vR a0, vI a1] (.inl none) S1 := by
  refine MS_of E.ntr E.hx (by decide +kernel) rfl (Nat.le_of_ble_eq_true rfl) fun K e1 e2 e3 e4 hnm C Q => ?_
  subst e1; subst e2; subst e3
  exact w_X3_forgets_b0m C E Q S a0 a1 h

def n_X3_acts_b111 (k74 : St → Option Nat → Int32 → Int32 → Option (Unit × St)) (S : St) (x0 : Option Nat) (x2 : Int32) (x4 : Int32) : Option (Unit × St) :=
  k74 S x0 x2 (x4 + 1)
def n_X3_acts_b74 : Nat → St → Option Nat → Int32 → Int32 → Option (Unit × St)
  | 0 => fun _ _ _ _ => none
  | n + 1 => fun S x0 x2 x4 =>
    (gI S x0 15 2).bind fun v1 =>
    if v1 ≤ x4 then
      some ((), S)
    else
      (gR S x0 15 3).bind fun v2 =>
      (aI S v2 1 x4).bind fun v3 =>
      if v3 = 0 then
        n_X3_acts_b111 (n_X3_acts_b74 n) S x0 x2 x4
      else
        (gR S x0 15 5).bind fun v4 =>
        (aI S v4 0 x4).bind fun v5 =>
        if v5 = x2 then
          gd (grc S x0 15) <|
          bn (n_X3_adds S x0 x4 (1 : Int32)) fun _ S6 =>
          n_X3_acts_b111 (n_X3_acts_b74 n) S6 x0 x2 x4
        else
          n_X3_acts_b111 (n_X3_acts_b74 n) S x0 x2 x4
def n_X3_acts_b179 (S : St) (x0 : Option Nat) (x2 : Int32) (y0 : Int32) : Option (Unit × St) :=
  gd (grc S x0 15) <|
  bn (n_X3_places S x0 x2) fun _ S1 =>
  if y0 = 0 then
    gd (grc S1 x0 15) <|
    bn (n_X3_reads S1 x0 x2) fun _ S3 =>
    some ((), S3)
  else
    some ((), S1)
def n_X3_acts_b178 (S : St) (x0 : Option Nat) (x2 : Int32) : Option (Unit × St) :=
  n_X3_acts_b179 S x0 x2 (0 : Int32)
def n_X3_acts (S : St) (x0 : Option Nat) (x1 : Int32) : Option (Unit × St) :=
  (gR S x0 15 31).bind fun v1 =>
  (aI S v1 0 x1).bind fun v2 =>
  (gR S x0 15 32).bind fun v3 =>
  (aI S v3 0 x1).bind fun v4 =>
  gd (grc S x0 15) <|
  bn (n_X3_takesAct S x0 x1) fun _ S5 =>
  gd (grc S5 x0 15) <|
  bn (n_X3_over S5 x0 v2) fun v8 S7 =>
  if v8 = (-1 : Int32) then
    gd (grc S7 x0 15) <|
    bn (n_X3_forgets S7 x0 v2) fun _ S30 =>
    some ((), S30)
  else
    if v4 = (2 : Int32) then
      gd (grc S7 x0 15) <|
      bn (n_X3_adds S7 x0 v2 (1 : Int32)) fun _ S28 =>
      some ((), S28)
    else
      (gR S7 x0 15 4).bind fun v9 =>
      (aI S7 v9 1 v2).bind fun v10 =>
      if v10 = 0 then
        (gR S7 x0 15 10).bind fun v11 =>
        (aI S7 v11 1 v2).bind fun v12 =>
        if v12 = 0 then
          (gR S7 x0 15 22).bind fun v13 =>
          (aI S7 v13 1 v2).bind fun v14 =>
          if v14 = 0 then
            n_X3_acts_b178 S7 x0 v2
          else
            (gR S7 x0 15 25).bind fun v15 =>
            (aI S7 v15 0 v2).bind fun v16 =>
            (gR S7 x0 15 7).bind fun v17 =>
            (aI S7 v17 0 v2).bind fun v18 =>
            if v16 = v18 then
              n_X3_acts_b179 S7 x0 v2 (1 : Int32)
            else
              n_X3_acts_b178 S7 x0 v2
        else
          gd (grc S7 x0 15) <|
          bn (n_X3_adds S7 x0 v2 (1 : Int32)) fun _ S19 =>
          (gR S19 x0 15 33).bind fun v21 =>
          (gI S19 x0 15 30).bind fun v22 =>
          (sI S19 v21 1 (v22 - (1 : Int32)) (1 : Int32)).bind fun S23 =>
          some ((), S23)
      else
        gd (grc S7 x0 15) <|
        bn (n_X3_places S7 x0 v2) fun _ S24 =>
        (gR S24 x0 15 25).bind fun v26 =>
        (sI S24 v26 0 v2 (0 : Int32)).bind fun S27 =>
        n_X3_acts_b74 FU S27 x0 v2 (0 : Int32)
theorem w_X3_acts_b111 {K : KT} {r : Unit} {S1 : St} (C : GC K RX3 cX3_acts 5 5 []) (E : EH (kΓ K) (kHI K) (kl K)) (Q : GQ K none (.inl none) S1) {k74 : St → Option Nat → Int32 → Int32 → Option (Unit × St)} (h74 : ∀ (S : St) (x0 : Option Nat) (x2 : Int32) (x4 : Int32), k74 S x0 x2 x4 = some (r, S1) → G K 5 S 74 [(0, vR x0), (2, vI x2), (4, vI x4)] []) : ∀ (S : St) (x0 : Option Nat) (x2 : Int32) (x4 : Int32), n_X3_acts_b111 k74 S x0 x2 x4 = some (r, S1) → G K 5 S 111 [(0, vR x0), (2, vI x2), (4, vI x4)] [] := by
  intro S x0 x2 x4 hd
  unfold n_X3_acts_b111 at hd
  refine g_iinc (v := x4 + 1) (L' := [(4, vI (x4 + 1)), (0, vR x0), (2, vI x2)]) C dX3_acts_111 2 rfl rfl (by decide) rfl ?_
  refine g_goto (tgt := 74) C dX3_acts_114 (by decide) ?_
  refine g_sub [1, 2, 0] rfl ?_
  exact h74 _ _ _ _ hd
theorem w_X3_acts_b74 {K : KT} {r : Unit} {S1 : St} (C : GC K RX3 cX3_acts 5 5 []) (E : EH (kΓ K) (kHI K) (kl K)) (Q : GQ K none (.inl none) S1) : ∀ (n : Nat) (S : St) (x0 : Option Nat) (x2 : Int32) (x4 : Int32), n_X3_acts_b74 n S x0 x2 x4 = some (r, S1) → G K 5 S 74 [(0, vR x0), (2, vI x2), (4, vI x4)] [] := by
  intro n
  induction n with
  | zero => intro S x0 x2 x4 hd; cases hd
  | succ n ih =>
    intro S x0 x2 x4 hd
    unfold n_X3_acts_b74 at hd
    refine g_iload C dX3_acts_74 2 rfl ?_
    refine g_aload_n C dX3_acts_76 rfl 0 rfl ?_
    obtain ⟨v1, hv1, hd⟩ := Option.bind_eq_some_iff.mp hd
    refine g_fld C gk_X3 (k := 2) (by decide) q1968 (Or.inl rfl) dX3_acts_77 (gI_v hv1) ?_
    refine g_icmp_ge (tgt := 117) C dX3_acts_80 (by decide) hd (fun hd => ?_) (fun hd => ?_)
    · refine g_goto (tgt := 196) C dX3_acts_117 (by decide) ?_
      exact g_vret C Q hd dX3_acts_196
    · refine g_aload_n C dX3_acts_83 rfl 0 rfl ?_
      obtain ⟨v2, hv2, hd⟩ := Option.bind_eq_some_iff.mp hd
      refine g_fld C gk_X3 (k := 3) (by decide) q1969 (Or.inl rfl) dX3_acts_84 (gR_v hv2) ?_
      refine g_iload C dX3_acts_87 2 rfl ?_
      obtain ⟨v3, hv3, hd⟩ := Option.bind_eq_some_iff.mp hd
      refine g_zaldV C dX3_acts_89 hv3 ?_
      refine g_if_eq (tgt := 111) C dX3_acts_90 (by decide) hd (fun hd => ?_) (fun hd => ?_)
      · refine g_sub [0, 1, 2] rfl ?_
        exact w_X3_acts_b111 C E Q ih _ _ _ _ hd
      · refine g_aload_n C dX3_acts_93 rfl 0 rfl ?_
        obtain ⟨v4, hv4, hd⟩ := Option.bind_eq_some_iff.mp hd
        refine g_fld C gk_X3 (k := 5) (by decide) q1971 (Or.inl rfl) dX3_acts_94 (gR_v hv4) ?_
        refine g_iload C dX3_acts_97 2 rfl ?_
        obtain ⟨v5, hv5, hd⟩ := Option.bind_eq_some_iff.mp hd
        refine g_ialdV C dX3_acts_99 hv5 ?_
        refine g_iload_n C dX3_acts_100 rfl 1 rfl ?_
        refine g_icmp_ne (tgt := 111) C dX3_acts_101 (by decide) hd (fun hd => ?_) (fun hd => ?_)
        · refine g_sub [0, 1, 2] rfl ?_
          exact w_X3_acts_b111 C E Q ih _ _ _ _ hd
        · refine g_aload_n C dX3_acts_104 rfl 0 rfl ?_
          refine g_iload C dX3_acts_105 2 rfl ?_
          refine g_iconst (v := 1) C dX3_acts_107 (by decide) ?_
          obtain ⟨hg, hd⟩ := gd_some hd
          obtain ⟨_, S6, hc, hd⟩ := bn_some hd
          refine g_cV_n (n := 2) C (gk_X3).1 q2183 q2185 qs63 q108 q2186 (by decide +kernel) (by decide) (by decide) dX3_acts_108 (As := [vI x4, vI (1 : Int32)]) (rest := []) rfl rfl (Nat.le_of_ble_eq_true rfl) hg (m_X3_adds E hc) ?_
          refine g_sub [0, 1, 2] rfl ?_
          exact w_X3_acts_b111 C E Q ih _ _ _ _ hd
theorem w_X3_acts_b179 {K : KT} {r : Unit} {S1 : St} (C : GC K RX3 cX3_acts 5 5 []) (E : EH (kΓ K) (kHI K) (kl K)) (Q : GQ K none (.inl none) S1) : ∀ (S : St) (x0 : Option Nat) (x2 : Int32) (y0 : Int32), n_X3_acts_b179 S x0 x2 y0 = some (r, S1) → G K 5 S 179 [(0, vR x0), (2, vI x2)] [vI y0] := by
  intro S x0 x2 y0 hd
  unfold n_X3_acts_b179 at hd
  refine g_istore (L' := [(4, vI y0), (0, vR x0), (2, vI x2)]) C dX3_acts_179 (by decide) rfl ?_
  refine g_aload_n C dX3_acts_181 rfl 1 rfl ?_
  refine g_iload_n C dX3_acts_182 rfl 2 rfl ?_
  obtain ⟨hg, hd⟩ := gd_some hd
  obtain ⟨_, S1, hc, hd⟩ := bn_some hd
  refine g_cV_n (n := 1) C (gk_X3).1 q2288 q2290 qs77 q108 q2291 (by decide +kernel) (by decide) (by decide) dX3_acts_183 (As := [vI x2]) (rest := []) rfl rfl (Nat.le_of_ble_eq_true rfl) hg (m_X3_places E hc) ?_
  refine g_iload C dX3_acts_186 0 rfl ?_
  refine g_if_ne (tgt := 196) C dX3_acts_188 (by decide) hd (fun hd => ?_) (fun hd => ?_)
  · exact g_vret C Q hd dX3_acts_196
  · refine g_aload_n C dX3_acts_191 rfl 1 rfl ?_
    refine g_iload_n C dX3_acts_192 rfl 2 rfl ?_
    obtain ⟨hg, hd⟩ := gd_some hd
    obtain ⟨_, S3, hc, hd⟩ := bn_some hd
    refine g_cV_n (n := 1) C (gk_X3).1 q2292 q2294 qs78 q108 q2295 (by decide +kernel) (by decide) (by decide) dX3_acts_193 (As := [vI x2]) (rest := []) rfl rfl (Nat.le_of_ble_eq_true rfl) hg (m_X3_reads E hc) ?_
    exact g_vret C Q hd dX3_acts_196
theorem w_X3_acts_b178 {K : KT} {r : Unit} {S1 : St} (C : GC K RX3 cX3_acts 5 5 []) (E : EH (kΓ K) (kHI K) (kl K)) (Q : GQ K none (.inl none) S1) : ∀ (S : St) (x0 : Option Nat) (x2 : Int32), n_X3_acts_b178 S x0 x2 = some (r, S1) → G K 5 S 178 [(0, vR x0), (2, vI x2)] [] := by
  intro S x0 x2 hd
  unfold n_X3_acts_b178 at hd
  refine g_iconst (v := 0) C dX3_acts_178 (by decide) ?_
  refine g_sub [0, 1] rfl ?_
  exact w_X3_acts_b179 C E Q _ _ _ _ hd
theorem w_X3_acts_b0m {K : KT} {r : Unit} {S1 : St} (C : GC K RX3 cX3_acts 5 5 []) (E : EH (kΓ K) (kHI K) (kl K)) (Q : GQ K none (.inl none) S1) : ∀ (S : St) (x0 : Option Nat) (x1 : Int32), n_X3_acts S x0 x1 = some (r, S1) → G K 5 S 0 [(0, vR x0), (1, vI x1)] [] := by
  intro S x0 x1 hd
  unfold n_X3_acts at hd
  refine g_aload_n C dX3_acts_0 rfl 0 rfl ?_
  obtain ⟨v1, hv1, hd⟩ := Option.bind_eq_some_iff.mp hd
  refine g_fld C gk_X3 (k := 31) (by decide) q1997 (Or.inl rfl) dX3_acts_1 (gR_v hv1) ?_
  refine g_iload_n C dX3_acts_4 rfl 1 rfl ?_
  obtain ⟨v2, hv2, hd⟩ := Option.bind_eq_some_iff.mp hd
  refine g_ialdV C dX3_acts_5 hv2 ?_
  refine g_istore_n (L' := [(2, vI v2), (0, vR x0), (1, vI x1)]) C dX3_acts_6 rfl (by decide) rfl ?_
  refine g_aload_n C dX3_acts_7 rfl 1 rfl ?_
  obtain ⟨v3, hv3, hd⟩ := Option.bind_eq_some_iff.mp hd
  refine g_fld C gk_X3 (k := 32) (by decide) q1998 (Or.inl rfl) dX3_acts_8 (gR_v hv3) ?_
  refine g_iload_n C dX3_acts_11 rfl 2 rfl ?_
  obtain ⟨v4, hv4, hd⟩ := Option.bind_eq_some_iff.mp hd
  refine g_ialdV C dX3_acts_12 hv4 ?_
  refine g_istore_n (L' := [(3, vI v4), (2, vI v2), (0, vR x0), (1, vI x1)]) C dX3_acts_13 rfl (by decide) rfl ?_
  refine g_aload_n C dX3_acts_14 rfl 2 rfl ?_
  refine g_iload_n C dX3_acts_15 rfl 3 rfl ?_
  obtain ⟨hg, hd⟩ := gd_some hd
  obtain ⟨_, S5, hc, hd⟩ := bn_some hd
  refine g_cV_n (n := 1) C (gk_X3).1 q2272 q2274 qs73 q108 q2275 (by decide +kernel) (by decide) (by decide) dX3_acts_16 (As := [vI x1]) (rest := []) rfl rfl (Nat.le_of_ble_eq_true rfl) hg (m_X3_takesAct E hc) ?_
  refine g_aload_n C dX3_acts_19 rfl 2 rfl ?_
  refine g_iload_n C dX3_acts_20 rfl 1 rfl ?_
  obtain ⟨hg, hd⟩ := gd_some hd
  obtain ⟨v8, S7, hc, hd⟩ := bn_some hd
  refine g_cV_v (n := 1) C (gk_X3).1 q2135 q2137 qs55 q108 q2138 (by decide +kernel) (by decide) (by decide) dX3_acts_21 (As := [vI v2]) (rest := []) rfl rfl (Nat.le_of_ble_eq_true rfl) hg (m_X3_over E hc) ?_
  refine g_iconst (v := (-1)) C dX3_acts_24 (by decide) ?_
  refine g_icmp_ne (tgt := 36) C dX3_acts_25 (by decide) hd (fun hd => ?_) (fun hd => ?_)
  · refine g_iload_n C dX3_acts_36 rfl 0 rfl ?_
    refine g_iconst (v := 2) C dX3_acts_37 (by decide) ?_
    refine g_icmp_ne (tgt := 50) C dX3_acts_38 (by decide) hd (fun hd => ?_) (fun hd => ?_)
    · refine g_aload_n C dX3_acts_50 rfl 2 rfl ?_
      obtain ⟨v9, hv9, hd⟩ := Option.bind_eq_some_iff.mp hd
      refine g_fld C gk_X3 (k := 4) (by decide) q1970 (Or.inl rfl) dX3_acts_51 (gR_v hv9) ?_
      refine g_iload_n C dX3_acts_54 rfl 1 rfl ?_
      obtain ⟨v10, hv10, hd⟩ := Option.bind_eq_some_iff.mp hd
      refine g_zaldV C dX3_acts_55 hv10 ?_
      refine g_if_eq (tgt := 120) C dX3_acts_56 (by decide) hd (fun hd => ?_) (fun hd => ?_)
      · refine g_aload_n C dX3_acts_120 rfl 2 rfl ?_
        obtain ⟨v11, hv11, hd⟩ := Option.bind_eq_some_iff.mp hd
        refine g_fld C gk_X3 (k := 10) (by decide) q1976 (Or.inl rfl) dX3_acts_121 (gR_v hv11) ?_
        refine g_iload_n C dX3_acts_124 rfl 1 rfl ?_
        obtain ⟨v12, hv12, hd⟩ := Option.bind_eq_some_iff.mp hd
        refine g_zaldV C dX3_acts_125 hv12 ?_
        refine g_if_eq (tgt := 150) C dX3_acts_126 (by decide) hd (fun hd => ?_) (fun hd => ?_)
        · refine g_aload_n C dX3_acts_150 rfl 2 rfl ?_
          obtain ⟨v13, hv13, hd⟩ := Option.bind_eq_some_iff.mp hd
          refine g_fld C gk_X3 (k := 22) (by decide) q1988 (Or.inl rfl) dX3_acts_151 (gR_v hv13) ?_
          refine g_iload_n C dX3_acts_154 rfl 1 rfl ?_
          obtain ⟨v14, hv14, hd⟩ := Option.bind_eq_some_iff.mp hd
          refine g_zaldV C dX3_acts_155 hv14 ?_
          refine g_if_eq (tgt := 178) C dX3_acts_156 (by decide) hd (fun hd => ?_) (fun hd => ?_)
          · refine g_sub [2, 1] rfl ?_
            exact w_X3_acts_b178 C E Q _ _ _ hd
          · refine g_aload_n C dX3_acts_159 rfl 2 rfl ?_
            obtain ⟨v15, hv15, hd⟩ := Option.bind_eq_some_iff.mp hd
            refine g_fld C gk_X3 (k := 25) (by decide) q1991 (Or.inl rfl) dX3_acts_160 (gR_v hv15) ?_
            refine g_iload_n C dX3_acts_163 rfl 1 rfl ?_
            obtain ⟨v16, hv16, hd⟩ := Option.bind_eq_some_iff.mp hd
            refine g_ialdV C dX3_acts_164 hv16 ?_
            refine g_aload_n C dX3_acts_165 rfl 2 rfl ?_
            obtain ⟨v17, hv17, hd⟩ := Option.bind_eq_some_iff.mp hd
            refine g_fld C gk_X3 (k := 7) (by decide) q1973 (Or.inl rfl) dX3_acts_166 (gR_v hv17) ?_
            refine g_iload_n C dX3_acts_169 rfl 1 rfl ?_
            obtain ⟨v18, hv18, hd⟩ := Option.bind_eq_some_iff.mp hd
            refine g_ialdV C dX3_acts_170 hv18 ?_
            refine g_icmp_ne (tgt := 178) C dX3_acts_171 (by decide) hd (fun hd => ?_) (fun hd => ?_)
            · refine g_sub [2, 1] rfl ?_
              exact w_X3_acts_b178 C E Q _ _ _ hd
            · refine g_iconst (v := 1) C dX3_acts_174 (by decide) ?_
              refine g_goto (tgt := 179) C dX3_acts_175 (by decide) ?_
              refine g_sub [2, 1] rfl ?_
              exact w_X3_acts_b179 C E Q _ _ _ _ hd
        · refine g_aload_n C dX3_acts_129 rfl 2 rfl ?_
          refine g_iload_n C dX3_acts_130 rfl 1 rfl ?_
          refine g_iconst (v := 1) C dX3_acts_131 (by decide) ?_
          obtain ⟨hg, hd⟩ := gd_some hd
          obtain ⟨_, S19, hc, hd⟩ := bn_some hd
          refine g_cV_n (n := 2) C (gk_X3).1 q2183 q2185 qs63 q108 q2186 (by decide +kernel) (by decide) (by decide) dX3_acts_132 (As := [vI v2, vI (1 : Int32)]) (rest := []) rfl rfl (Nat.le_of_ble_eq_true rfl) hg (m_X3_adds E hc) ?_
          refine g_aload_n C dX3_acts_135 rfl 2 rfl ?_
          obtain ⟨v21, hv21, hd⟩ := Option.bind_eq_some_iff.mp hd
          refine g_fld C gk_X3 (k := 33) (by decide) q1999 (Or.inl rfl) dX3_acts_136 (gR_v hv21) ?_
          refine g_aload_n C dX3_acts_139 rfl 2 rfl ?_
          obtain ⟨v22, hv22, hd⟩ := Option.bind_eq_some_iff.mp hd
          refine g_fld C gk_X3 (k := 30) (by decide) q1996 (Or.inl rfl) dX3_acts_140 (gI_v hv22) ?_
          refine g_iconst (v := 1) C dX3_acts_143 (by decide) ?_
          refine g_isub C dX3_acts_144 ?_
          refine g_iconst (v := 1) C dX3_acts_145 (by decide) ?_
          obtain ⟨S23, hS23, hd⟩ := Option.bind_eq_some_iff.mp hd
          refine g_zastV C dX3_acts_146 hS23 ?_
          refine g_goto (tgt := 196) C dX3_acts_147 (by decide) ?_
          exact g_vret C Q hd dX3_acts_196
      · refine g_aload_n C dX3_acts_59 rfl 2 rfl ?_
        refine g_iload_n C dX3_acts_60 rfl 1 rfl ?_
        obtain ⟨hg, hd⟩ := gd_some hd
        obtain ⟨_, S24, hc, hd⟩ := bn_some hd
        refine g_cV_n (n := 1) C (gk_X3).1 q2288 q2290 qs77 q108 q2291 (by decide +kernel) (by decide) (by decide) dX3_acts_61 (As := [vI v2]) (rest := []) rfl rfl (Nat.le_of_ble_eq_true rfl) hg (m_X3_places E hc) ?_
        refine g_aload_n C dX3_acts_64 rfl 2 rfl ?_
        obtain ⟨v26, hv26, hd⟩ := Option.bind_eq_some_iff.mp hd
        refine g_fld C gk_X3 (k := 25) (by decide) q1991 (Or.inl rfl) dX3_acts_65 (gR_v hv26) ?_
        refine g_iload_n C dX3_acts_68 rfl 1 rfl ?_
        refine g_iconst (v := 0) C dX3_acts_69 (by decide) ?_
        obtain ⟨S27, hS27, hd⟩ := Option.bind_eq_some_iff.mp hd
        refine g_iastV C dX3_acts_70 hS27 ?_
        refine g_iconst (v := 0) C dX3_acts_71 (by decide) ?_
        refine g_istore (L' := [(4, vI (0 : Int32)), (3, vI v4), (2, vI v2), (0, vR x0), (1, vI x1)]) C dX3_acts_72 (by decide) rfl ?_
        refine g_sub [3, 2, 0] rfl ?_
        exact w_X3_acts_b74 C E Q FU _ _ _ _ hd
    · refine g_aload_n C dX3_acts_41 rfl 2 rfl ?_
      refine g_iload_n C dX3_acts_42 rfl 1 rfl ?_
      refine g_iconst (v := 1) C dX3_acts_43 (by decide) ?_
      obtain ⟨hg, hd⟩ := gd_some hd
      obtain ⟨_, S28, hc, hd⟩ := bn_some hd
      refine g_cV_n (n := 2) C (gk_X3).1 q2183 q2185 qs63 q108 q2186 (by decide +kernel) (by decide) (by decide) dX3_acts_44 (As := [vI v2, vI (1 : Int32)]) (rest := []) rfl rfl (Nat.le_of_ble_eq_true rfl) hg (m_X3_adds E hc) ?_
      refine g_goto (tgt := 196) C dX3_acts_47 (by decide) ?_
      exact g_vret C Q hd dX3_acts_196
  · refine g_aload_n C dX3_acts_28 rfl 2 rfl ?_
    refine g_iload_n C dX3_acts_29 rfl 1 rfl ?_
    obtain ⟨hg, hd⟩ := gd_some hd
    obtain ⟨_, S30, hc, hd⟩ := bn_some hd
    refine g_cV_n (n := 1) C (gk_X3).1 q2276 q2278 qs74 q108 q2279 (by decide +kernel) (by decide) (by decide) dX3_acts_30 (As := [vI v2]) (rest := []) rfl rfl (Nat.le_of_ble_eq_true rfl) hg (m_X3_forgets E hc) ?_
    refine g_goto (tgt := 196) C dX3_acts_33 (by decide) ?_
    exact g_vret C Q hd dX3_acts_196
theorem m_X3_acts {Γ : GG} {HI : St → Heap → Prop} {l : Launch} (E : EH Γ HI l) {S : St} {a0 : Option Nat} {a1 : Int32} {r : Unit} {S1 : St} (h : n_X3_acts S a0 a1 = some (r, S1)) : MS Γ HI l yX3_acts cX3_acts 5 none 5 S [vR a0, vI a1] (.inl none) S1 := by
  refine MS_of E.ntr E.hx (by decide +kernel) rfl (Nat.le_of_ble_eq_true rfl) fun K e1 e2 e3 e4 hnm C Q => ?_
  subst e1; subst e2; subst e3
  exact w_X3_acts_b0m C E Q S a0 a1 h

def n_X3_notes_b65 : Nat → St → Option Nat → Int32 → Int32 → Option (Unit × St)
  | 0 => fun _ _ _ _ => none
  | n + 1 => fun S x0 x1 x2 =>
    (gR S x0 15 14).bind fun v1 =>
    (aI S v1 0 x1).bind fun v2 =>
    if v2 ≤ x2 then
      some ((), S)
    else
      (gR S x0 15 15).bind fun v3 =>
      (gR S x0 15 15).bind fun v4 =>
      (aI S v4 0 ((((8 : Int32) * x1) + x2) + (1 : Int32))).bind fun v5 =>
      (sI S v3 0 (((8 : Int32) * x1) + x2) v5).bind fun S6 =>
      (gR S6 x0 15 16).bind fun v7 =>
      (gR S6 x0 15 16).bind fun v8 =>
      (aI S6 v8 0 ((((8 : Int32) * x1) + x2) + (1 : Int32))).bind fun v9 =>
      (sI S6 v7 0 (((8 : Int32) * x1) + x2) v9).bind fun S10 =>
      (n_X3_notes_b65 n) S10 x0 x1 (x2 + 1)
def n_X3_notes_b50 (S : St) (x0 : Option Nat) (x1 : Int32) (y0 : Int32) (y1 : Int32) (y2 : Option Nat) : Option (Unit × St) :=
  gd (grc S y2 15) <|
  bn (n_X3_adds S y2 y1 y0) fun _ S1 =>
  (gR S1 x0 15 14).bind fun v3 =>
  (aI S1 v3 0 x1).bind fun v4 =>
  (sI S1 v3 0 x1 (v4 - (1 : Int32))).bind fun S5 =>
  n_X3_notes_b65 FU S5 x0 x1 (0 : Int32)
def n_X3_notes (S : St) (x0 : Option Nat) (x1 : Int32) : Option (Unit × St) :=
  (gR S x0 15 17).bind fun v1 =>
  (aI S v1 1 x1).bind fun v2 =>
  if v2 = 0 then
    (gR S x0 15 16).bind fun v3 =>
    (aI S v3 0 ((8 : Int32) * x1)).bind fun v4 =>
    (gR S x0 15 15).bind fun v5 =>
    (aI S v5 0 ((8 : Int32) * x1)).bind fun v6 =>
    if v6 = (2 : Int32) then
      n_X3_notes_b50 S x0 x1 (2 : Int32) v4 x0
    else
      n_X3_notes_b50 S x0 x1 (1 : Int32) v4 x0
  else
    (gR S x0 15 17).bind fun v7 =>
    (sI S v7 1 x1 (0 : Int32)).bind fun S8 =>
    gd (grc S8 x0 15) <|
    bn (n_X3_beginsCrawl S8 x0 x1) fun _ S9 =>
    some ((), S9)
theorem w_X3_notes_b65 {K : KT} {r : Unit} {S1 : St} (C : GC K RX3 cX3_notes 3 3 []) (E : EH (kΓ K) (kHI K) (kl K)) (Q : GQ K none (.inl none) S1) : ∀ (n : Nat) (S : St) (x0 : Option Nat) (x1 : Int32) (x2 : Int32), n_X3_notes_b65 n S x0 x1 x2 = some (r, S1) → G K 3 S 65 [(0, vR x0), (1, vI x1), (2, vI x2)] [] := by
  intro n
  induction n with
  | zero => intro S x0 x1 x2 hd; cases hd
  | succ n ih =>
    intro S x0 x1 x2 hd
    unfold n_X3_notes_b65 at hd
    refine g_iload_n C dX3_notes_65 rfl 2 rfl ?_
    refine g_aload_n C dX3_notes_66 rfl 0 rfl ?_
    obtain ⟨v1, hv1, hd⟩ := Option.bind_eq_some_iff.mp hd
    refine g_fld C gk_X3 (k := 14) (by decide) q1980 (Or.inl rfl) dX3_notes_67 (gR_v hv1) ?_
    refine g_iload_n C dX3_notes_70 rfl 1 rfl ?_
    obtain ⟨v2, hv2, hd⟩ := Option.bind_eq_some_iff.mp hd
    refine g_ialdV C dX3_notes_71 hv2 ?_
    refine g_icmp_ge (tgt := 129) C dX3_notes_72 (by decide) hd (fun hd => ?_) (fun hd => ?_)
    · exact g_vret C Q hd dX3_notes_129
    · refine g_aload_n C dX3_notes_75 rfl 0 rfl ?_
      obtain ⟨v3, hv3, hd⟩ := Option.bind_eq_some_iff.mp hd
      refine g_fld C gk_X3 (k := 15) (by decide) q1981 (Or.inl rfl) dX3_notes_76 (gR_v hv3) ?_
      refine g_bipush (v := 8) C dX3_notes_79 (by decide) ?_
      refine g_iload_n C dX3_notes_81 rfl 1 rfl ?_
      refine g_imul C dX3_notes_82 ?_
      refine g_iload_n C dX3_notes_83 rfl 2 rfl ?_
      refine g_iadd C dX3_notes_84 ?_
      refine g_aload_n C dX3_notes_85 rfl 0 rfl ?_
      obtain ⟨v4, hv4, hd⟩ := Option.bind_eq_some_iff.mp hd
      refine g_fld C gk_X3 (k := 15) (by decide) q1981 (Or.inl rfl) dX3_notes_86 (gR_v hv4) ?_
      refine g_bipush (v := 8) C dX3_notes_89 (by decide) ?_
      refine g_iload_n C dX3_notes_91 rfl 1 rfl ?_
      refine g_imul C dX3_notes_92 ?_
      refine g_iload_n C dX3_notes_93 rfl 2 rfl ?_
      refine g_iadd C dX3_notes_94 ?_
      refine g_iconst (v := 1) C dX3_notes_95 (by decide) ?_
      refine g_iadd C dX3_notes_96 ?_
      obtain ⟨v5, hv5, hd⟩ := Option.bind_eq_some_iff.mp hd
      refine g_ialdV C dX3_notes_97 hv5 ?_
      obtain ⟨S6, hS6, hd⟩ := Option.bind_eq_some_iff.mp hd
      refine g_iastV C dX3_notes_98 hS6 ?_
      refine g_aload_n C dX3_notes_99 rfl 0 rfl ?_
      obtain ⟨v7, hv7, hd⟩ := Option.bind_eq_some_iff.mp hd
      refine g_fld C gk_X3 (k := 16) (by decide) q1982 (Or.inl rfl) dX3_notes_100 (gR_v hv7) ?_
      refine g_bipush (v := 8) C dX3_notes_103 (by decide) ?_
      refine g_iload_n C dX3_notes_105 rfl 1 rfl ?_
      refine g_imul C dX3_notes_106 ?_
      refine g_iload_n C dX3_notes_107 rfl 2 rfl ?_
      refine g_iadd C dX3_notes_108 ?_
      refine g_aload_n C dX3_notes_109 rfl 0 rfl ?_
      obtain ⟨v8, hv8, hd⟩ := Option.bind_eq_some_iff.mp hd
      refine g_fld C gk_X3 (k := 16) (by decide) q1982 (Or.inl rfl) dX3_notes_110 (gR_v hv8) ?_
      refine g_bipush (v := 8) C dX3_notes_113 (by decide) ?_
      refine g_iload_n C dX3_notes_115 rfl 1 rfl ?_
      refine g_imul C dX3_notes_116 ?_
      refine g_iload_n C dX3_notes_117 rfl 2 rfl ?_
      refine g_iadd C dX3_notes_118 ?_
      refine g_iconst (v := 1) C dX3_notes_119 (by decide) ?_
      refine g_iadd C dX3_notes_120 ?_
      obtain ⟨v9, hv9, hd⟩ := Option.bind_eq_some_iff.mp hd
      refine g_ialdV C dX3_notes_121 hv9 ?_
      obtain ⟨S10, hS10, hd⟩ := Option.bind_eq_some_iff.mp hd
      refine g_iastV C dX3_notes_122 hS10 ?_
      refine g_iinc (v := x2 + 1) (L' := [(2, vI (x2 + 1)), (0, vR x0), (1, vI x1)]) C dX3_notes_123 2 rfl rfl (by decide) rfl ?_
      refine g_goto (tgt := 65) C dX3_notes_126 (by decide) ?_
      refine g_sub [1, 2, 0] rfl ?_
      exact ih _ _ _ _ hd
theorem w_X3_notes_b50 {K : KT} {r : Unit} {S1 : St} (C : GC K RX3 cX3_notes 3 3 []) (E : EH (kΓ K) (kHI K) (kl K)) (Q : GQ K none (.inl none) S1) : ∀ (S : St) (x0 : Option Nat) (x1 : Int32) (y0 : Int32) (y1 : Int32) (y2 : Option Nat), n_X3_notes_b50 S x0 x1 y0 y1 y2 = some (r, S1) → G K 3 S 50 [(0, vR x0), (1, vI x1)] [vI y0, vI y1, vR y2] := by
  intro S x0 x1 y0 y1 y2 hd
  unfold n_X3_notes_b50 at hd
  obtain ⟨hg, hd⟩ := gd_some hd
  obtain ⟨_, S1, hc, hd⟩ := bn_some hd
  refine g_cV_n (n := 2) C (gk_X3).1 q2183 q2185 qs63 q108 q2186 (by decide +kernel) (by decide) (by decide) dX3_notes_50 (As := [vI y1, vI y0]) (rest := []) rfl rfl (Nat.le_of_ble_eq_true rfl) hg (m_X3_adds E hc) ?_
  refine g_aload_n C dX3_notes_53 rfl 0 rfl ?_
  obtain ⟨v3, hv3, hd⟩ := Option.bind_eq_some_iff.mp hd
  refine g_fld C gk_X3 (k := 14) (by decide) q1980 (Or.inl rfl) dX3_notes_54 (gR_v hv3) ?_
  refine g_iload_n C dX3_notes_57 rfl 1 rfl ?_
  refine g_dup2 C dX3_notes_58 rfl rfl ?_
  obtain ⟨v4, hv4, hd⟩ := Option.bind_eq_some_iff.mp hd
  refine g_ialdV C dX3_notes_59 hv4 ?_
  refine g_iconst (v := 1) C dX3_notes_60 (by decide) ?_
  refine g_isub C dX3_notes_61 ?_
  obtain ⟨S5, hS5, hd⟩ := Option.bind_eq_some_iff.mp hd
  refine g_iastV C dX3_notes_62 hS5 ?_
  refine g_iconst (v := 0) C dX3_notes_63 (by decide) ?_
  refine g_istore_n (L' := [(2, vI (0 : Int32)), (0, vR x0), (1, vI x1)]) C dX3_notes_64 rfl (by decide) rfl ?_
  refine g_sub [1, 2, 0] rfl ?_
  exact w_X3_notes_b65 C E Q FU _ _ _ _ hd
theorem w_X3_notes_b0m {K : KT} {r : Unit} {S1 : St} (C : GC K RX3 cX3_notes 3 3 []) (E : EH (kΓ K) (kHI K) (kl K)) (Q : GQ K none (.inl none) S1) : ∀ (S : St) (x0 : Option Nat) (x1 : Int32), n_X3_notes S x0 x1 = some (r, S1) → G K 3 S 0 [(0, vR x0), (1, vI x1)] [] := by
  intro S x0 x1 hd
  unfold n_X3_notes at hd
  refine g_aload_n C dX3_notes_0 rfl 0 rfl ?_
  obtain ⟨v1, hv1, hd⟩ := Option.bind_eq_some_iff.mp hd
  refine g_fld C gk_X3 (k := 17) (by decide) q1983 (Or.inl rfl) dX3_notes_1 (gR_v hv1) ?_
  refine g_iload_n C dX3_notes_4 rfl 1 rfl ?_
  obtain ⟨v2, hv2, hd⟩ := Option.bind_eq_some_iff.mp hd
  refine g_zaldV C dX3_notes_5 hv2 ?_
  refine g_if_eq (tgt := 22) C dX3_notes_6 (by decide) hd (fun hd => ?_) (fun hd => ?_)
  · refine g_aload_n C dX3_notes_22 rfl 0 rfl ?_
    refine g_aload_n C dX3_notes_23 rfl 0 rfl ?_
    obtain ⟨v3, hv3, hd⟩ := Option.bind_eq_some_iff.mp hd
    refine g_fld C gk_X3 (k := 16) (by decide) q1982 (Or.inl rfl) dX3_notes_24 (gR_v hv3) ?_
    refine g_bipush (v := 8) C dX3_notes_27 (by decide) ?_
    refine g_iload_n C dX3_notes_29 rfl 1 rfl ?_
    refine g_imul C dX3_notes_30 ?_
    obtain ⟨v4, hv4, hd⟩ := Option.bind_eq_some_iff.mp hd
    refine g_ialdV C dX3_notes_31 hv4 ?_
    refine g_aload_n C dX3_notes_32 rfl 0 rfl ?_
    obtain ⟨v5, hv5, hd⟩ := Option.bind_eq_some_iff.mp hd
    refine g_fld C gk_X3 (k := 15) (by decide) q1981 (Or.inl rfl) dX3_notes_33 (gR_v hv5) ?_
    refine g_bipush (v := 8) C dX3_notes_36 (by decide) ?_
    refine g_iload_n C dX3_notes_38 rfl 1 rfl ?_
    refine g_imul C dX3_notes_39 ?_
    obtain ⟨v6, hv6, hd⟩ := Option.bind_eq_some_iff.mp hd
    refine g_ialdV C dX3_notes_40 hv6 ?_
    refine g_iconst (v := 2) C dX3_notes_41 (by decide) ?_
    refine g_icmp_ne (tgt := 49) C dX3_notes_42 (by decide) hd (fun hd => ?_) (fun hd => ?_)
    · refine g_iconst (v := 1) C dX3_notes_49 (by decide) ?_
      refine g_sub [0, 1] rfl ?_
      exact w_X3_notes_b50 C E Q _ _ _ _ _ _ hd
    · refine g_iconst (v := 2) C dX3_notes_45 (by decide) ?_
      refine g_goto (tgt := 50) C dX3_notes_46 (by decide) ?_
      refine g_sub [0, 1] rfl ?_
      exact w_X3_notes_b50 C E Q _ _ _ _ _ _ hd
  · refine g_aload_n C dX3_notes_9 rfl 0 rfl ?_
    obtain ⟨v7, hv7, hd⟩ := Option.bind_eq_some_iff.mp hd
    refine g_fld C gk_X3 (k := 17) (by decide) q1983 (Or.inl rfl) dX3_notes_10 (gR_v hv7) ?_
    refine g_iload_n C dX3_notes_13 rfl 1 rfl ?_
    refine g_iconst (v := 0) C dX3_notes_14 (by decide) ?_
    obtain ⟨S8, hS8, hd⟩ := Option.bind_eq_some_iff.mp hd
    refine g_zastV C dX3_notes_15 hS8 ?_
    refine g_aload_n C dX3_notes_16 rfl 0 rfl ?_
    refine g_iload_n C dX3_notes_17 rfl 1 rfl ?_
    obtain ⟨hg, hd⟩ := gd_some hd
    obtain ⟨_, S9, hc, hd⟩ := bn_some hd
    refine g_cV_n (n := 1) C (gk_X3).1 q2211 q2213 qs65 q108 q2214 (by decide +kernel) (by decide) (by decide) dX3_notes_18 (As := [vI x1]) (rest := []) rfl rfl (Nat.le_of_ble_eq_true rfl) hg (m_X3_beginsCrawl E hc) ?_
    exact g_vret C Q hd dX3_notes_21
theorem m_X3_notes {Γ : GG} {HI : St → Heap → Prop} {l : Launch} (E : EH Γ HI l) {S : St} {a0 : Option Nat} {a1 : Int32} {r : Unit} {S1 : St} (h : n_X3_notes S a0 a1 = some (r, S1)) : MS Γ HI l yX3_notes cX3_notes 3 none 3 S [vR a0, vI a1] (.inl none) S1 := by
  refine MS_of E.ntr E.hx (by decide +kernel) rfl (Nat.le_of_ble_eq_true rfl) fun K e1 e2 e3 e4 hnm C Q => ?_
  subst e1; subst e2; subst e3
  exact w_X3_notes_b0m C E Q S a0 a1 h

def n_X3_firstAct_b27 (k9 : St → Option Nat → Int32 → Int32 → Option (Int32 × St)) (S : St) (x0 : Option Nat) (x2 : Int32) (y0 : Int32) : Option (Int32 × St) :=
  k9 S x0 y0 (x2 + (-1))
def n_X3_firstAct_b9 : Nat → St → Option Nat → Int32 → Int32 → Option (Int32 × St)
  | 0 => fun _ _ _ _ => none
  | n + 1 => fun S x0 x1 x2 =>
    if x2 < 0 then
      rtI id (Jvm.ClassFile.FieldType.int) x1 S
    else
      (gR S x0 15 33).bind fun v1 =>
      (aI S v1 1 x2).bind fun v2 =>
      if v2 = 0 then
        n_X3_firstAct_b27 (n_X3_firstAct_b9 n) S x0 x2 x2
      else
        n_X3_firstAct_b27 (n_X3_firstAct_b9 n) S x0 x2 x1
def n_X3_firstAct (S : St) (x0 : Option Nat) : Option (Int32 × St) :=
  (gI S x0 15 30).bind fun v1 =>
  n_X3_firstAct_b9 FU S x0 (-1 : Int32) (v1 - (1 : Int32))
theorem w_X3_firstAct_b27 {K : KT} {r : Int32} {S1 : St} (C : GC K RX3 cX3_firstAct 3 2 []) (E : EH (kΓ K) (kHI K) (kl K)) (Q : GQ K (some (Jvm.ClassFile.FieldType.int)) (.inl (some (vI r))) S1) {k9 : St → Option Nat → Int32 → Int32 → Option (Int32 × St)} (h9 : ∀ (S : St) (x0 : Option Nat) (x1 : Int32) (x2 : Int32), k9 S x0 x1 x2 = some (r, S1) → G K 3 S 9 [(0, vR x0), (1, vI x1), (2, vI x2)] []) : ∀ (S : St) (x0 : Option Nat) (x2 : Int32) (y0 : Int32), n_X3_firstAct_b27 k9 S x0 x2 y0 = some (r, S1) → G K 3 S 27 [(0, vR x0), (2, vI x2)] [vI y0] := by
  intro S x0 x2 y0 hd
  unfold n_X3_firstAct_b27 at hd
  refine g_istore_n (L' := [(1, vI y0), (0, vR x0), (2, vI x2)]) C dX3_firstAct_27 rfl (by decide) rfl ?_
  refine g_iinc (v := x2 + (-1)) (L' := [(2, vI (x2 + (-1))), (1, vI y0), (0, vR x0)]) C dX3_firstAct_28 2 rfl rfl (by decide) rfl ?_
  refine g_goto (tgt := 9) C dX3_firstAct_31 (by decide) ?_
  refine g_sub [2, 1, 0] rfl ?_
  exact h9 _ _ _ _ hd
theorem w_X3_firstAct_b9 {K : KT} {r : Int32} {S1 : St} (C : GC K RX3 cX3_firstAct 3 2 []) (E : EH (kΓ K) (kHI K) (kl K)) (Q : GQ K (some (Jvm.ClassFile.FieldType.int)) (.inl (some (vI r))) S1) : ∀ (n : Nat) (S : St) (x0 : Option Nat) (x1 : Int32) (x2 : Int32), n_X3_firstAct_b9 n S x0 x1 x2 = some (r, S1) → G K 3 S 9 [(0, vR x0), (1, vI x1), (2, vI x2)] [] := by
  intro n
  induction n with
  | zero => intro S x0 x1 x2 hd; cases hd
  | succ n ih =>
    intro S x0 x1 x2 hd
    unfold n_X3_firstAct_b9 at hd
    refine g_iload_n C dX3_firstAct_9 rfl 2 rfl ?_
    refine g_if_lt (tgt := 34) C dX3_firstAct_10 (by decide) hd (fun hd => ?_) (fun hd => ?_)
    · refine g_iload_n C dX3_firstAct_34 rfl 1 rfl ?_
      exact g_iret C Q hd dX3_firstAct_35
    · refine g_aload_n C dX3_firstAct_13 rfl 0 rfl ?_
      obtain ⟨v1, hv1, hd⟩ := Option.bind_eq_some_iff.mp hd
      refine g_fld C gk_X3 (k := 33) (by decide) q1999 (Or.inl rfl) dX3_firstAct_14 (gR_v hv1) ?_
      refine g_iload_n C dX3_firstAct_17 rfl 2 rfl ?_
      obtain ⟨v2, hv2, hd⟩ := Option.bind_eq_some_iff.mp hd
      refine g_zaldV C dX3_firstAct_18 hv2 ?_
      refine g_if_eq (tgt := 26) C dX3_firstAct_19 (by decide) hd (fun hd => ?_) (fun hd => ?_)
      · refine g_iload_n C dX3_firstAct_26 rfl 2 rfl ?_
        refine g_sub [0, 2] rfl ?_
        exact w_X3_firstAct_b27 C E Q ih _ _ _ _ hd
      · refine g_iload_n C dX3_firstAct_22 rfl 1 rfl ?_
        refine g_goto (tgt := 27) C dX3_firstAct_23 (by decide) ?_
        refine g_sub [0, 2] rfl ?_
        exact w_X3_firstAct_b27 C E Q ih _ _ _ _ hd
theorem w_X3_firstAct_b0m {K : KT} {r : Int32} {S1 : St} (C : GC K RX3 cX3_firstAct 3 2 []) (E : EH (kΓ K) (kHI K) (kl K)) (Q : GQ K (some (Jvm.ClassFile.FieldType.int)) (.inl (some (vI r))) S1) : ∀ (S : St) (x0 : Option Nat), n_X3_firstAct S x0 = some (r, S1) → G K 3 S 0 [(0, vR x0)] [] := by
  intro S x0 hd
  unfold n_X3_firstAct at hd
  refine g_iconst (v := (-1)) C dX3_firstAct_0 (by decide) ?_
  refine g_istore_n (L' := [(1, vI (-1 : Int32)), (0, vR x0)]) C dX3_firstAct_1 rfl (by decide) rfl ?_
  refine g_aload_n C dX3_firstAct_2 rfl 1 rfl ?_
  obtain ⟨v1, hv1, hd⟩ := Option.bind_eq_some_iff.mp hd
  refine g_fld C gk_X3 (k := 30) (by decide) q1996 (Or.inl rfl) dX3_firstAct_3 (gI_v hv1) ?_
  refine g_iconst (v := 1) C dX3_firstAct_6 (by decide) ?_
  refine g_isub C dX3_firstAct_7 ?_
  refine g_istore_n (L' := [(2, vI (v1 - (1 : Int32))), (1, vI (-1 : Int32)), (0, vR x0)]) C dX3_firstAct_8 rfl (by decide) rfl ?_
  refine g_sub [2, 1, 0] rfl ?_
  exact w_X3_firstAct_b9 C E Q FU _ _ _ _ hd
theorem m_X3_firstAct {Γ : GG} {HI : St → Heap → Prop} {l : Launch} (E : EH Γ HI l) {S : St} {a0 : Option Nat} {r : Int32} {S1 : St} (h : n_X3_firstAct S a0 = some (r, S1)) : MS Γ HI l yX3_firstAct cX3_firstAct 3 (some (Jvm.ClassFile.FieldType.int)) 2 S [vR a0] (.inl (some (vI r))) S1 := by
  refine MS_of E.ntr E.hx (by decide +kernel) rfl (Nat.le_of_ble_eq_true rfl) fun K e1 e2 e3 e4 hnm C Q => ?_
  subst e1; subst e2; subst e3
  exact w_X3_firstAct_b0m C E Q S a0 h

def n_X3_cost_b78 (S : St) (x0 : Option Nat) (x2 : Int32) : Option (Int32 × St) :=
  (gR S x0 15 8).bind fun v1 =>
  (aI S v1 0 x2).bind fun v2 =>
  rtI id (Jvm.ClassFile.FieldType.int) ((1 : Int32) + v2) S
def n_X3_cost_b49 (S : St) (x0 : Option Nat) (x2 : Int32) (y0 : Int32) : Option (Int32 × St) :=
  if y0 = 0 then
    rtI id (Jvm.ClassFile.FieldType.int) (1 : Int32) S
  else
    (gR S x0 15 22).bind fun v1 =>
    (aI S v1 1 x2).bind fun v2 =>
    if v2 = 0 then
      n_X3_cost_b78 S x0 x2
    else
      (gR S x0 15 25).bind fun v3 =>
      (aI S v3 0 x2).bind fun v4 =>
      (gR S x0 15 7).bind fun v5 =>
      (aI S v5 0 x2).bind fun v6 =>
      if v4 = v6 then
        rtI id (Jvm.ClassFile.FieldType.int) (1 : Int32) S
      else
        n_X3_cost_b78 S x0 x2
def n_X3_cost_b48 (S : St) (x0 : Option Nat) (x2 : Int32) : Option (Int32 × St) :=
  n_X3_cost_b49 S x0 x2 (0 : Int32)
def n_X3_cost (S : St) (x0 : Option Nat) (x1 : Int32) : Option (Int32 × St) :=
  (gR S x0 15 31).bind fun v1 =>
  (aI S v1 0 x1).bind fun v2 =>
  (gR S x0 15 32).bind fun v3 =>
  (aI S v3 0 x1).bind fun v4 =>
  if v4 = (1 : Int32) then
    gd (grc S x0 15) <|
    bn (n_X3_over S x0 v2) fun v6 S5 =>
    if v6 = (-1 : Int32) then
      n_X3_cost_b48 S5 x0 v2
    else
      (gR S5 x0 15 4).bind fun v7 =>
      (aI S5 v7 1 v2).bind fun v8 =>
      if v8 = 0 then
        (gR S5 x0 15 10).bind fun v9 =>
        (aI S5 v9 1 v2).bind fun v10 =>
        if v10 = 0 then
          n_X3_cost_b49 S5 x0 v2 (1 : Int32)
        else
          n_X3_cost_b48 S5 x0 v2
      else
        n_X3_cost_b48 S5 x0 v2
  else
    n_X3_cost_b48 S x0 v2
theorem w_X3_cost_b78 {K : KT} {r : Int32} {S1 : St} (C : GC K RX3 cX3_cost 4 4 []) (E : EH (kΓ K) (kHI K) (kl K)) (Q : GQ K (some (Jvm.ClassFile.FieldType.int)) (.inl (some (vI r))) S1) : ∀ (S : St) (x0 : Option Nat) (x2 : Int32), n_X3_cost_b78 S x0 x2 = some (r, S1) → G K 4 S 78 [(0, vR x0), (2, vI x2)] [] := by
  intro S x0 x2 hd
  unfold n_X3_cost_b78 at hd
  refine g_iconst (v := 1) C dX3_cost_78 (by decide) ?_
  refine g_aload_n C dX3_cost_79 rfl 0 rfl ?_
  obtain ⟨v1, hv1, hd⟩ := Option.bind_eq_some_iff.mp hd
  refine g_fld C gk_X3 (k := 8) (by decide) q1974 (Or.inl rfl) dX3_cost_80 (gR_v hv1) ?_
  refine g_iload_n C dX3_cost_83 rfl 1 rfl ?_
  obtain ⟨v2, hv2, hd⟩ := Option.bind_eq_some_iff.mp hd
  refine g_ialdV C dX3_cost_84 hv2 ?_
  refine g_iadd C dX3_cost_85 ?_
  refine g_goto (tgt := 90) C dX3_cost_86 (by decide) ?_
  exact g_iret C Q hd dX3_cost_90
theorem w_X3_cost_b49 {K : KT} {r : Int32} {S1 : St} (C : GC K RX3 cX3_cost 4 4 []) (E : EH (kΓ K) (kHI K) (kl K)) (Q : GQ K (some (Jvm.ClassFile.FieldType.int)) (.inl (some (vI r))) S1) : ∀ (S : St) (x0 : Option Nat) (x2 : Int32) (y0 : Int32), n_X3_cost_b49 S x0 x2 y0 = some (r, S1) → G K 4 S 49 [(0, vR x0), (2, vI x2)] [vI y0] := by
  intro S x0 x2 y0 hd
  unfold n_X3_cost_b49 at hd
  refine g_istore_n (L' := [(3, vI y0), (0, vR x0), (2, vI x2)]) C dX3_cost_49 rfl (by decide) rfl ?_
  refine g_iload_n C dX3_cost_50 rfl 0 rfl ?_
  refine g_if_eq (tgt := 89) C dX3_cost_51 (by decide) hd (fun hd => ?_) (fun hd => ?_)
  · refine g_iconst (v := 1) C dX3_cost_89 (by decide) ?_
    exact g_iret C Q hd dX3_cost_90
  · refine g_aload_n C dX3_cost_54 rfl 1 rfl ?_
    obtain ⟨v1, hv1, hd⟩ := Option.bind_eq_some_iff.mp hd
    refine g_fld C gk_X3 (k := 22) (by decide) q1988 (Or.inl rfl) dX3_cost_55 (gR_v hv1) ?_
    refine g_iload_n C dX3_cost_58 rfl 2 rfl ?_
    obtain ⟨v2, hv2, hd⟩ := Option.bind_eq_some_iff.mp hd
    refine g_zaldV C dX3_cost_59 hv2 ?_
    refine g_if_eq (tgt := 78) C dX3_cost_60 (by decide) hd (fun hd => ?_) (fun hd => ?_)
    · refine g_sub [1, 2] rfl ?_
      exact w_X3_cost_b78 C E Q _ _ _ hd
    · refine g_aload_n C dX3_cost_63 rfl 1 rfl ?_
      obtain ⟨v3, hv3, hd⟩ := Option.bind_eq_some_iff.mp hd
      refine g_fld C gk_X3 (k := 25) (by decide) q1991 (Or.inl rfl) dX3_cost_64 (gR_v hv3) ?_
      refine g_iload_n C dX3_cost_67 rfl 2 rfl ?_
      obtain ⟨v4, hv4, hd⟩ := Option.bind_eq_some_iff.mp hd
      refine g_ialdV C dX3_cost_68 hv4 ?_
      refine g_aload_n C dX3_cost_69 rfl 1 rfl ?_
      obtain ⟨v5, hv5, hd⟩ := Option.bind_eq_some_iff.mp hd
      refine g_fld C gk_X3 (k := 7) (by decide) q1973 (Or.inl rfl) dX3_cost_70 (gR_v hv5) ?_
      refine g_iload_n C dX3_cost_73 rfl 2 rfl ?_
      obtain ⟨v6, hv6, hd⟩ := Option.bind_eq_some_iff.mp hd
      refine g_ialdV C dX3_cost_74 hv6 ?_
      refine g_icmp_eq (tgt := 89) C dX3_cost_75 (by decide) hd (fun hd => ?_) (fun hd => ?_)
      · refine g_iconst (v := 1) C dX3_cost_89 (by decide) ?_
        exact g_iret C Q hd dX3_cost_90
      · refine g_sub [1, 2] rfl ?_
        exact w_X3_cost_b78 C E Q _ _ _ hd
theorem w_X3_cost_b48 {K : KT} {r : Int32} {S1 : St} (C : GC K RX3 cX3_cost 4 4 []) (E : EH (kΓ K) (kHI K) (kl K)) (Q : GQ K (some (Jvm.ClassFile.FieldType.int)) (.inl (some (vI r))) S1) : ∀ (S : St) (x0 : Option Nat) (x2 : Int32), n_X3_cost_b48 S x0 x2 = some (r, S1) → G K 4 S 48 [(0, vR x0), (2, vI x2)] [] := by
  intro S x0 x2 hd
  unfold n_X3_cost_b48 at hd
  refine g_iconst (v := 0) C dX3_cost_48 (by decide) ?_
  refine g_sub [0, 1] rfl ?_
  exact w_X3_cost_b49 C E Q _ _ _ _ hd
theorem w_X3_cost_b0m {K : KT} {r : Int32} {S1 : St} (C : GC K RX3 cX3_cost 4 4 []) (E : EH (kΓ K) (kHI K) (kl K)) (Q : GQ K (some (Jvm.ClassFile.FieldType.int)) (.inl (some (vI r))) S1) : ∀ (S : St) (x0 : Option Nat) (x1 : Int32), n_X3_cost S x0 x1 = some (r, S1) → G K 4 S 0 [(0, vR x0), (1, vI x1)] [] := by
  intro S x0 x1 hd
  unfold n_X3_cost at hd
  refine g_aload_n C dX3_cost_0 rfl 0 rfl ?_
  obtain ⟨v1, hv1, hd⟩ := Option.bind_eq_some_iff.mp hd
  refine g_fld C gk_X3 (k := 31) (by decide) q1997 (Or.inl rfl) dX3_cost_1 (gR_v hv1) ?_
  refine g_iload_n C dX3_cost_4 rfl 1 rfl ?_
  obtain ⟨v2, hv2, hd⟩ := Option.bind_eq_some_iff.mp hd
  refine g_ialdV C dX3_cost_5 hv2 ?_
  refine g_istore_n (L' := [(2, vI v2), (0, vR x0), (1, vI x1)]) C dX3_cost_6 rfl (by decide) rfl ?_
  refine g_aload_n C dX3_cost_7 rfl 1 rfl ?_
  obtain ⟨v3, hv3, hd⟩ := Option.bind_eq_some_iff.mp hd
  refine g_fld C gk_X3 (k := 32) (by decide) q1998 (Or.inl rfl) dX3_cost_8 (gR_v hv3) ?_
  refine g_iload_n C dX3_cost_11 rfl 2 rfl ?_
  obtain ⟨v4, hv4, hd⟩ := Option.bind_eq_some_iff.mp hd
  refine g_ialdV C dX3_cost_12 hv4 ?_
  refine g_iconst (v := 1) C dX3_cost_13 (by decide) ?_
  refine g_icmp_ne (tgt := 48) C dX3_cost_14 (by decide) hd (fun hd => ?_) (fun hd => ?_)
  · refine g_sub [1, 0] rfl ?_
    exact w_X3_cost_b48 C E Q _ _ _ hd
  · refine g_aload_n C dX3_cost_17 rfl 1 rfl ?_
    refine g_iload_n C dX3_cost_18 rfl 0 rfl ?_
    obtain ⟨hg, hd⟩ := gd_some hd
    obtain ⟨v6, S5, hc, hd⟩ := bn_some hd
    refine g_cV_v (n := 1) C (gk_X3).1 q2135 q2137 qs55 q108 q2138 (by decide +kernel) (by decide) (by decide) dX3_cost_19 (As := [vI v2]) (rest := []) rfl rfl (Nat.le_of_ble_eq_true rfl) hg (m_X3_over E hc) ?_
    refine g_iconst (v := (-1)) C dX3_cost_22 (by decide) ?_
    refine g_icmp_eq (tgt := 48) C dX3_cost_23 (by decide) hd (fun hd => ?_) (fun hd => ?_)
    · refine g_sub [1, 0] rfl ?_
      exact w_X3_cost_b48 C E Q _ _ _ hd
    · refine g_aload_n C dX3_cost_26 rfl 1 rfl ?_
      obtain ⟨v7, hv7, hd⟩ := Option.bind_eq_some_iff.mp hd
      refine g_fld C gk_X3 (k := 4) (by decide) q1970 (Or.inl rfl) dX3_cost_27 (gR_v hv7) ?_
      refine g_iload_n C dX3_cost_30 rfl 0 rfl ?_
      obtain ⟨v8, hv8, hd⟩ := Option.bind_eq_some_iff.mp hd
      refine g_zaldV C dX3_cost_31 hv8 ?_
      refine g_if_ne (tgt := 48) C dX3_cost_32 (by decide) hd (fun hd => ?_) (fun hd => ?_)
      · refine g_sub [1, 0] rfl ?_
        exact w_X3_cost_b48 C E Q _ _ _ hd
      · refine g_aload_n C dX3_cost_35 rfl 1 rfl ?_
        obtain ⟨v9, hv9, hd⟩ := Option.bind_eq_some_iff.mp hd
        refine g_fld C gk_X3 (k := 10) (by decide) q1976 (Or.inl rfl) dX3_cost_36 (gR_v hv9) ?_
        refine g_iload_n C dX3_cost_39 rfl 0 rfl ?_
        obtain ⟨v10, hv10, hd⟩ := Option.bind_eq_some_iff.mp hd
        refine g_zaldV C dX3_cost_40 hv10 ?_
        refine g_if_ne (tgt := 48) C dX3_cost_41 (by decide) hd (fun hd => ?_) (fun hd => ?_)
        · refine g_sub [1, 0] rfl ?_
          exact w_X3_cost_b48 C E Q _ _ _ hd
        · refine g_iconst (v := 1) C dX3_cost_44 (by decide) ?_
          refine g_goto (tgt := 49) C dX3_cost_45 (by decide) ?_
          refine g_sub [1, 0] rfl ?_
          exact w_X3_cost_b49 C E Q _ _ _ _ hd
theorem m_X3_cost {Γ : GG} {HI : St → Heap → Prop} {l : Launch} (E : EH Γ HI l) {S : St} {a0 : Option Nat} {a1 : Int32} {r : Int32} {S1 : St} (h : n_X3_cost S a0 a1 = some (r, S1)) : MS Γ HI l yX3_cost cX3_cost 4 (some (Jvm.ClassFile.FieldType.int)) 4 S [vR a0, vI a1] (.inl (some (vI r))) S1 := by
  refine MS_of E.ntr E.hx (by decide +kernel) rfl (Nat.le_of_ble_eq_true rfl) fun K e1 e2 e3 e4 hnm C Q => ?_
  subst e1; subst e2; subst e3
  exact w_X3_cost_b0m C E Q S a0 a1 h

def n_X3_does_b61 (S : St) (x0 : Option Nat) (x2 : Int32) (x3 : Int32) (x4 : Int32) (x5 : Int32) : Option (Int32 × St) :=
  if x2 = (-1 : Int32) then
    if x3 = (-1 : Int32) then
      gd (grc S x0 15) <|
      bn (n_X3_goesOn S x0 x4) fun _ S1 =>
      rtI id (Jvm.ClassFile.FieldType.int) x5 S1
    else
      gd (grc S x0 15) <|
      bn (n_X3_acts S x0 x3) fun _ S3 =>
      rtI id (Jvm.ClassFile.FieldType.int) x5 S3
  else
    gd (grc S x0 15) <|
    bn (n_X3_notes S x0 x2) fun _ S5 =>
    rtI id (Jvm.ClassFile.FieldType.int) x5 S5
def n_X3_does_b35 (S : St) (x0 : Option Nat) (x1 : Int32) (x2 : Int32) (x3 : Int32) (x4 : Int32) (y0 : Int32) : Option (Int32 × St) :=
  if x1 < y0 then
    rtI id (Jvm.ClassFile.FieldType.int) (0 : Int32) S
  else
    if x2 = (-1 : Int32) then
      if x3 = (-1 : Int32) then
        if x4 = (-1 : Int32) then
          rtI id (Jvm.ClassFile.FieldType.int) (0 : Int32) S
        else
          n_X3_does_b61 S x0 x2 x3 x4 y0
      else
        n_X3_does_b61 S x0 x2 x3 x4 y0
    else
      n_X3_does_b61 S x0 x2 x3 x4 y0
def n_X3_does_b34 (S : St) (x0 : Option Nat) (x1 : Int32) (x2 : Int32) (x3 : Int32) (x4 : Int32) : Option (Int32 × St) :=
  n_X3_does_b35 S x0 x1 x2 x3 x4 (1 : Int32)
def n_X3_does (S : St) (x0 : Option Nat) (x1 : Int32) : Option (Int32 × St) :=
  gd (grc S x0 15) <|
  bn (n_X3_firstNoticed S x0) fun v2 S1 =>
  gd (grc S1 x0 15) <|
  bn (n_X3_firstAct S1 x0) fun v4 S3 =>
  gd (grc S3 x0 15) <|
  bn (n_X3_firstCrawl S3 x0) fun v6 S5 =>
  if v2 = (-1 : Int32) then
    if v4 = (-1 : Int32) then
      n_X3_does_b34 S5 x0 x1 v2 v4 v6
    else
      gd (grc S5 x0 15) <|
      bn (n_X3_cost S5 x0 v4) fun v8 S7 =>
      n_X3_does_b35 S7 x0 x1 v2 v4 v6 v8
  else
    n_X3_does_b34 S5 x0 x1 v2 v4 v6
theorem w_X3_does_b61 {K : KT} {r : Int32} {S1 : St} (C : GC K RX3 cX3_does 6 6 []) (E : EH (kΓ K) (kHI K) (kl K)) (Q : GQ K (some (Jvm.ClassFile.FieldType.int)) (.inl (some (vI r))) S1) : ∀ (S : St) (x0 : Option Nat) (x2 : Int32) (x3 : Int32) (x4 : Int32) (x5 : Int32), n_X3_does_b61 S x0 x2 x3 x4 x5 = some (r, S1) → G K 6 S 61 [(0, vR x0), (2, vI x2), (3, vI x3), (4, vI x4), (5, vI x5)] [] := by
  intro S x0 x2 x3 x4 x5 hd
  unfold n_X3_does_b61 at hd
  refine g_iload_n C dX3_does_61 rfl 1 rfl ?_
  refine g_iconst (v := (-1)) C dX3_does_62 (by decide) ?_
  refine g_icmp_eq (tgt := 74) C dX3_does_63 (by decide) hd (fun hd => ?_) (fun hd => ?_)
  · refine g_iload_n C dX3_does_74 rfl 2 rfl ?_
    refine g_iconst (v := (-1)) C dX3_does_75 (by decide) ?_
    refine g_icmp_eq (tgt := 87) C dX3_does_76 (by decide) hd (fun hd => ?_) (fun hd => ?_)
    · refine g_aload_n C dX3_does_87 rfl 0 rfl ?_
      refine g_iload C dX3_does_88 3 rfl ?_
      obtain ⟨hg, hd⟩ := gd_some hd
      obtain ⟨_, S1, hc, hd⟩ := bn_some hd
      refine g_cV_n (n := 1) C (gk_X3).1 q2300 q2302 qs80 q108 q2303 (by decide +kernel) (by decide) (by decide) dX3_does_90 (As := [vI x4]) (rest := []) rfl rfl (Nat.le_of_ble_eq_true rfl) hg (m_X3_goesOn E hc) ?_
      refine g_iload C dX3_does_93 4 rfl ?_
      exact g_iret C Q hd dX3_does_95
    · refine g_aload_n C dX3_does_79 rfl 0 rfl ?_
      refine g_iload_n C dX3_does_80 rfl 2 rfl ?_
      obtain ⟨hg, hd⟩ := gd_some hd
      obtain ⟨_, S3, hc, hd⟩ := bn_some hd
      refine g_cV_n (n := 1) C (gk_X3).1 q2268 q2270 qs72 q108 q2271 (by decide +kernel) (by decide) (by decide) dX3_does_81 (As := [vI x3]) (rest := []) rfl rfl (Nat.le_of_ble_eq_true rfl) hg (m_X3_acts E hc) ?_
      refine g_goto (tgt := 93) C dX3_does_84 (by decide) ?_
      refine g_iload C dX3_does_93 4 rfl ?_
      exact g_iret C Q hd dX3_does_95
  · refine g_aload_n C dX3_does_66 rfl 0 rfl ?_
    refine g_iload_n C dX3_does_67 rfl 1 rfl ?_
    obtain ⟨hg, hd⟩ := gd_some hd
    obtain ⟨_, S5, hc, hd⟩ := bn_some hd
    refine g_cV_n (n := 1) C (gk_X3).1 q2264 q2266 qs71 q108 q2267 (by decide +kernel) (by decide) (by decide) dX3_does_68 (As := [vI x2]) (rest := []) rfl rfl (Nat.le_of_ble_eq_true rfl) hg (m_X3_notes E hc) ?_
    refine g_goto (tgt := 93) C dX3_does_71 (by decide) ?_
    refine g_iload C dX3_does_93 4 rfl ?_
    exact g_iret C Q hd dX3_does_95
theorem w_X3_does_b35 {K : KT} {r : Int32} {S1 : St} (C : GC K RX3 cX3_does 6 6 []) (E : EH (kΓ K) (kHI K) (kl K)) (Q : GQ K (some (Jvm.ClassFile.FieldType.int)) (.inl (some (vI r))) S1) : ∀ (S : St) (x0 : Option Nat) (x1 : Int32) (x2 : Int32) (x3 : Int32) (x4 : Int32) (y0 : Int32), n_X3_does_b35 S x0 x1 x2 x3 x4 y0 = some (r, S1) → G K 6 S 35 [(0, vR x0), (1, vI x1), (2, vI x2), (3, vI x3), (4, vI x4)] [vI y0] := by
  intro S x0 x1 x2 x3 x4 y0 hd
  unfold n_X3_does_b35 at hd
  refine g_istore (L' := [(5, vI y0), (0, vR x0), (1, vI x1), (2, vI x2), (3, vI x3), (4, vI x4)]) C dX3_does_35 (by decide) rfl ?_
  refine g_iload C dX3_does_37 0 rfl ?_
  refine g_iload_n C dX3_does_39 rfl 2 rfl ?_
  refine g_icmp_gt (tgt := 59) C dX3_does_40 (by decide) hd (fun hd => ?_) (fun hd => ?_)
  · refine g_iconst (v := 0) C dX3_does_59 (by decide) ?_
    exact g_iret C Q hd dX3_does_60
  · refine g_iload_n C dX3_does_43 rfl 3 rfl ?_
    refine g_iconst (v := (-1)) C dX3_does_44 (by decide) ?_
    refine g_icmp_ne (tgt := 61) C dX3_does_45 (by decide) hd (fun hd => ?_) (fun hd => ?_)
    · refine g_sub [1, 3, 4, 5, 0] rfl ?_
      exact w_X3_does_b61 C E Q _ _ _ _ _ _ hd
    · refine g_iload_n C dX3_does_48 rfl 4 rfl ?_
      refine g_iconst (v := (-1)) C dX3_does_49 (by decide) ?_
      refine g_icmp_ne (tgt := 61) C dX3_does_50 (by decide) hd (fun hd => ?_) (fun hd => ?_)
      · refine g_sub [1, 3, 4, 5, 0] rfl ?_
        exact w_X3_does_b61 C E Q _ _ _ _ _ _ hd
      · refine g_iload C dX3_does_53 5 rfl ?_
        refine g_iconst (v := (-1)) C dX3_does_55 (by decide) ?_
        refine g_icmp_ne (tgt := 61) C dX3_does_56 (by decide) hd (fun hd => ?_) (fun hd => ?_)
        · refine g_sub [1, 3, 4, 5, 0] rfl ?_
          exact w_X3_does_b61 C E Q _ _ _ _ _ _ hd
        · refine g_iconst (v := 0) C dX3_does_59 (by decide) ?_
          exact g_iret C Q hd dX3_does_60
theorem w_X3_does_b34 {K : KT} {r : Int32} {S1 : St} (C : GC K RX3 cX3_does 6 6 []) (E : EH (kΓ K) (kHI K) (kl K)) (Q : GQ K (some (Jvm.ClassFile.FieldType.int)) (.inl (some (vI r))) S1) : ∀ (S : St) (x0 : Option Nat) (x1 : Int32) (x2 : Int32) (x3 : Int32) (x4 : Int32), n_X3_does_b34 S x0 x1 x2 x3 x4 = some (r, S1) → G K 6 S 34 [(0, vR x0), (1, vI x1), (2, vI x2), (3, vI x3), (4, vI x4)] [] := by
  intro S x0 x1 x2 x3 x4 hd
  unfold n_X3_does_b34 at hd
  refine g_iconst (v := 1) C dX3_does_34 (by decide) ?_
  refine g_sub [0, 1, 2, 3, 4] rfl ?_
  exact w_X3_does_b35 C E Q _ _ _ _ _ _ _ hd
theorem w_X3_does_b0m {K : KT} {r : Int32} {S1 : St} (C : GC K RX3 cX3_does 6 6 []) (E : EH (kΓ K) (kHI K) (kl K)) (Q : GQ K (some (Jvm.ClassFile.FieldType.int)) (.inl (some (vI r))) S1) : ∀ (S : St) (x0 : Option Nat) (x1 : Int32), n_X3_does S x0 x1 = some (r, S1) → G K 6 S 0 [(0, vR x0), (1, vI x1)] [] := by
  intro S x0 x1 hd
  unfold n_X3_does at hd
  refine g_aload_n C dX3_does_0 rfl 0 rfl ?_
  obtain ⟨hg, hd⟩ := gd_some hd
  obtain ⟨v2, S1, hc, hd⟩ := bn_some hd
  refine g_cV_v (n := 0) C (gk_X3).1 q2248 q2250 qs67 q108 q2251 (by decide +kernel) (by decide) (by decide) dX3_does_1 (As := []) (rest := []) rfl rfl (Nat.le_of_ble_eq_true rfl) hg (m_X3_firstNoticed E hc) ?_
  refine g_istore_n (L' := [(2, vI v2), (0, vR x0), (1, vI x1)]) C dX3_does_4 rfl (by decide) rfl ?_
  refine g_aload_n C dX3_does_5 rfl 1 rfl ?_
  obtain ⟨hg, hd⟩ := gd_some hd
  obtain ⟨v4, S3, hc, hd⟩ := bn_some hd
  refine g_cV_v (n := 0) C (gk_X3).1 q2252 q2254 qs68 q108 q2255 (by decide +kernel) (by decide) (by decide) dX3_does_6 (As := []) (rest := []) rfl rfl (Nat.le_of_ble_eq_true rfl) hg (m_X3_firstAct E hc) ?_
  refine g_istore_n (L' := [(3, vI v4), (2, vI v2), (0, vR x0), (1, vI x1)]) C dX3_does_9 rfl (by decide) rfl ?_
  refine g_aload_n C dX3_does_10 rfl 2 rfl ?_
  obtain ⟨hg, hd⟩ := gd_some hd
  obtain ⟨v6, S5, hc, hd⟩ := bn_some hd
  refine g_cV_v (n := 0) C (gk_X3).1 q2256 q2258 qs69 q108 q2259 (by decide +kernel) (by decide) (by decide) dX3_does_11 (As := []) (rest := []) rfl rfl (Nat.le_of_ble_eq_true rfl) hg (m_X3_firstCrawl E hc) ?_
  refine g_istore (L' := [(4, vI v6), (3, vI v4), (2, vI v2), (0, vR x0), (1, vI x1)]) C dX3_does_14 (by decide) rfl ?_
  refine g_iload_n C dX3_does_16 rfl 2 rfl ?_
  refine g_iconst (v := (-1)) C dX3_does_17 (by decide) ?_
  refine g_icmp_ne (tgt := 34) C dX3_does_18 (by decide) hd (fun hd => ?_) (fun hd => ?_)
  · refine g_sub [3, 4, 2, 1, 0] rfl ?_
    exact w_X3_does_b34 C E Q _ _ _ _ _ _ hd
  · refine g_iload_n C dX3_does_21 rfl 1 rfl ?_
    refine g_iconst (v := (-1)) C dX3_does_22 (by decide) ?_
    refine g_icmp_eq (tgt := 34) C dX3_does_23 (by decide) hd (fun hd => ?_) (fun hd => ?_)
    · refine g_sub [3, 4, 2, 1, 0] rfl ?_
      exact w_X3_does_b34 C E Q _ _ _ _ _ _ hd
    · refine g_aload_n C dX3_does_26 rfl 3 rfl ?_
      refine g_iload_n C dX3_does_27 rfl 1 rfl ?_
      obtain ⟨hg, hd⟩ := gd_some hd
      obtain ⟨v8, S7, hc, hd⟩ := bn_some hd
      refine g_cV_v (n := 1) C (gk_X3).1 q2260 q2262 qs70 q108 q2263 (by decide +kernel) (by decide) (by decide) dX3_does_28 (As := [vI v4]) (rest := []) rfl rfl (Nat.le_of_ble_eq_true rfl) hg (m_X3_cost E hc) ?_
      refine g_goto (tgt := 35) C dX3_does_31 (by decide) ?_
      refine g_sub [3, 4, 2, 1, 0] rfl ?_
      exact w_X3_does_b35 C E Q _ _ _ _ _ _ _ hd
theorem m_X3_does {Γ : GG} {HI : St → Heap → Prop} {l : Launch} (E : EH Γ HI l) {S : St} {a0 : Option Nat} {a1 : Int32} {r : Int32} {S1 : St} (h : n_X3_does S a0 a1 = some (r, S1)) : MS Γ HI l yX3_does cX3_does 6 (some (Jvm.ClassFile.FieldType.int)) 6 S [vR a0, vI a1] (.inl (some (vI r))) S1 := by
  refine MS_of E.ntr E.hx (by decide +kernel) rfl (Nat.le_of_ble_eq_true rfl) fun K e1 e2 e3 e4 hnm C Q => ?_
  subst e1; subst e2; subst e3
  exact w_X3_does_b0m C E Q S a0 a1 h

def n_X3_work_b151 : Nat → St → Option Nat → Int32 → Int32 → Option (Int32 × St)
  | 0 => fun _ _ _ _ => none
  | n + 1 => fun S x0 x3 x5 =>
    (gI S x0 15 30).bind fun v1 =>
    if v1 ≤ x5 then
      gd (grc S x0 15) <|
      bn (n_X3_indexes S x0) fun _ S2 =>
      rtI id (Jvm.ClassFile.FieldType.int) x3 S2
    else
      (gR S x0 15 33).bind fun v4 =>
      (sI S v4 1 x5 (0 : Int32)).bind fun S5 =>
      (n_X3_work_b151 n) S5 x0 x3 (x5 + 1)
def n_X3_work_b144 (S : St) (x0 : Option Nat) (x3 : Int32) (y0 : Int32) (y1 : Int32) (y2 : Option Nat) : Option (Int32 × St) :=
  (pI .int S y2 15 36 (y1 + y0)).bind fun S1 =>
  n_X3_work_b151 FU S1 x0 x3 (0 : Int32)
def n_X3_work_b105 : Nat → St → Option Nat → Int32 → Int32 → Int32 → Option (Int32 × St)
  | 0 => fun _ _ _ _ _ => none
  | n + 1 => fun S x0 x2 x3 x4 =>
    if x4 ≤ 0 then
      (gI S x0 15 36).bind fun v1 =>
      (gI S x0 15 34).bind fun v2 =>
      if v2 = 0 then
        n_X3_work_b144 S x0 x3 (0 : Int32) v1 x0
      else
        n_X3_work_b144 S x0 x3 x3 v1 x0
    else
      gd (grc S x0 15) <|
      bn (n_X3_does S x0 (x2 - (x3 + x4))) fun v4 S3 =>
      (n_X3_work_b105 n) S3 x0 x2 (x3 + x4) v4
def n_X3_work_b95 (S : St) (x0 : Option Nat) (y0 : Int32) : Option (Int32 × St) :=
  gd (grc S x0 15) <|
  bn (n_X3_does S x0 y0) fun v2 S1 =>
  n_X3_work_b105 FU S1 x0 y0 (0 : Int32) v2
def n_X3_work_b94 (S : St) (x0 : Option Nat) (x1 : Int32) : Option (Int32 × St) :=
  n_X3_work_b95 S x0 x1
def n_X3_work_b52 (S : St) (x0 : Option Nat) (x1 : Int32) (y0 : Int32) (y1 : Option Nat) : Option (Int32 × St) :=
  (pI .int S y1 15 36 y0).bind fun S1 =>
  (gI S1 x0 15 1).bind fun v2 =>
  if (60 : Int32) = 0 then none else
  (pI .int S1 x0 15 35 (v2 / (60 : Int32))).bind fun S3 =>
  (gI S3 x0 15 34).bind fun v4 =>
  if v4 = 0 then
    n_X3_work_b94 S3 x0 x1
  else
    (gI S3 x0 15 36).bind fun v5 =>
    if x1 ≤ ((20 : Int32) - v5) then
      n_X3_work_b94 S3 x0 x1
    else
      (gI S3 x0 15 36).bind fun v6 =>
      n_X3_work_b95 S3 x0 ((20 : Int32) - v6)
def n_X3_work_b17 (S : St) (x0 : Option Nat) (x1 : Int32) (y0 : Int32) (y1 : Option Nat) : Option (Int32 × St) :=
  (pI .int S y1 15 0 y0).bind fun S1 =>
  (gI S1 x0 15 0).bind fun v2 =>
  if v2 ≤ 0 then
    (gI S1 x0 15 35).bind fun v3 =>
    (gI S1 x0 15 1).bind fun v4 =>
    if (60 : Int32) = 0 then none else
    if v3 = (v4 / (60 : Int32)) then
      (gI S1 x0 15 36).bind fun v5 =>
      n_X3_work_b52 S1 x0 x1 v5 x0
    else
      n_X3_work_b52 S1 x0 x1 (0 : Int32) x0
  else
    rtI id (Jvm.ClassFile.FieldType.int) (0 : Int32) S1
def n_X3_work (S : St) (x0 : Option Nat) (x1 : Int32) : Option (Int32 × St) :=
  bn (n_X3_in S x1 (1 : Int32) (500 : Int32)) fun v2 S1 =>
  if v2 = 0 then
    n_X3_work_b17 S1 x0 x1 (1 : Int32) x0
  else
    n_X3_work_b17 S1 x0 x1 (0 : Int32) x0
theorem w_X3_work_b151 {K : KT} {r : Int32} {S1 : St} (C : GC K RX3 cX3_work 6 7 []) (E : EH (kΓ K) (kHI K) (kl K)) (Q : GQ K (some (Jvm.ClassFile.FieldType.int)) (.inl (some (vI r))) S1) : ∀ (n : Nat) (S : St) (x0 : Option Nat) (x3 : Int32) (x5 : Int32), n_X3_work_b151 n S x0 x3 x5 = some (r, S1) → G K 6 S 151 [(0, vR x0), (3, vI x3), (5, vI x5)] [] := by
  intro n
  induction n with
  | zero => intro S x0 x3 x5 hd; cases hd
  | succ n ih =>
    intro S x0 x3 x5 hd
    unfold n_X3_work_b151 at hd
    refine g_iload C dX3_work_151 2 rfl ?_
    refine g_aload_n C dX3_work_153 rfl 0 rfl ?_
    obtain ⟨v1, hv1, hd⟩ := Option.bind_eq_some_iff.mp hd
    refine g_fld C gk_X3 (k := 30) (by decide) q1996 (Or.inl rfl) dX3_work_154 (gI_v hv1) ?_
    refine g_icmp_ge (tgt := 174) C dX3_work_157 (by decide) hd (fun hd => ?_) (fun hd => ?_)
    · refine g_aload_n C dX3_work_174 rfl 0 rfl ?_
      obtain ⟨hg, hd⟩ := gd_some hd
      obtain ⟨_, S2, hc, hd⟩ := bn_some hd
      refine g_cV_n (n := 0) C (gk_X3).1 q2312 q2314 qs83 q108 q2315 (by decide +kernel) (by decide) (by decide) dX3_work_175 (As := []) (rest := []) rfl rfl (Nat.le_of_ble_eq_true rfl) hg (m_X3_indexes E hc) ?_
      refine g_iload_n C dX3_work_178 rfl 1 rfl ?_
      exact g_iret C Q hd dX3_work_179
    · refine g_aload_n C dX3_work_160 rfl 0 rfl ?_
      obtain ⟨v4, hv4, hd⟩ := Option.bind_eq_some_iff.mp hd
      refine g_fld C gk_X3 (k := 33) (by decide) q1999 (Or.inl rfl) dX3_work_161 (gR_v hv4) ?_
      refine g_iload C dX3_work_164 2 rfl ?_
      refine g_iconst (v := 0) C dX3_work_166 (by decide) ?_
      obtain ⟨S5, hS5, hd⟩ := Option.bind_eq_some_iff.mp hd
      refine g_zastV C dX3_work_167 hS5 ?_
      refine g_iinc (v := x5 + 1) (L' := [(5, vI (x5 + 1)), (0, vR x0), (3, vI x3)]) C dX3_work_168 2 rfl rfl (by decide) rfl ?_
      refine g_goto (tgt := 151) C dX3_work_171 (by decide) ?_
      refine g_sub [1, 2, 0] rfl ?_
      exact ih _ _ _ _ hd
theorem w_X3_work_b144 {K : KT} {r : Int32} {S1 : St} (C : GC K RX3 cX3_work 6 7 []) (E : EH (kΓ K) (kHI K) (kl K)) (Q : GQ K (some (Jvm.ClassFile.FieldType.int)) (.inl (some (vI r))) S1) : ∀ (S : St) (x0 : Option Nat) (x3 : Int32) (y0 : Int32) (y1 : Int32) (y2 : Option Nat), n_X3_work_b144 S x0 x3 y0 y1 y2 = some (r, S1) → G K 6 S 144 [(0, vR x0), (3, vI x3)] [vI y0, vI y1, vR y2] := by
  intro S x0 x3 y0 y1 y2 hd
  unfold n_X3_work_b144 at hd
  refine g_iadd C dX3_work_144 ?_
  obtain ⟨S1, hS1, hd⟩ := Option.bind_eq_some_iff.mp hd
  refine g_put C gk_X3 (k := 36) (by decide) q2002 (Or.inl rfl) rfl dX3_work_145 (gfit_ok (pI_v hS1).1).1 (gfit_ok (pI_v hS1).1).2 (pI_v hS1).2 ?_
  refine g_iconst (v := 0) C dX3_work_148 (by decide) ?_
  refine g_istore (L' := [(5, vI (0 : Int32)), (0, vR x0), (3, vI x3)]) C dX3_work_149 (by decide) rfl ?_
  refine g_sub [1, 2, 0] rfl ?_
  exact w_X3_work_b151 C E Q FU _ _ _ _ hd
theorem w_X3_work_b105 {K : KT} {r : Int32} {S1 : St} (C : GC K RX3 cX3_work 6 7 []) (E : EH (kΓ K) (kHI K) (kl K)) (Q : GQ K (some (Jvm.ClassFile.FieldType.int)) (.inl (some (vI r))) S1) : ∀ (n : Nat) (S : St) (x0 : Option Nat) (x2 : Int32) (x3 : Int32) (x4 : Int32), n_X3_work_b105 n S x0 x2 x3 x4 = some (r, S1) → G K 6 S 105 [(0, vR x0), (2, vI x2), (3, vI x3), (4, vI x4)] [] := by
  intro n
  induction n with
  | zero => intro S x0 x2 x3 x4 hd; cases hd
  | succ n ih =>
    intro S x0 x2 x3 x4 hd
    unfold n_X3_work_b105 at hd
    refine g_iload C dX3_work_105 3 rfl ?_
    refine g_if_le (tgt := 127) C dX3_work_107 (by decide) hd (fun hd => ?_) (fun hd => ?_)
    · refine g_aload_n C dX3_work_127 rfl 0 rfl ?_
      refine g_dup C dX3_work_128 rfl ?_
      obtain ⟨v1, hv1, hd⟩ := Option.bind_eq_some_iff.mp hd
      refine g_fld C gk_X3 (k := 36) (by decide) q2002 (Or.inl rfl) dX3_work_129 (gI_v hv1) ?_
      refine g_aload_n C dX3_work_132 rfl 0 rfl ?_
      obtain ⟨v2, hv2, hd⟩ := Option.bind_eq_some_iff.mp hd
      refine g_fld C gk_X3 (k := 34) (by decide) q2000 (Or.inl rfl) dX3_work_133 (gI_v hv2) ?_
      refine g_if_eq (tgt := 143) C dX3_work_136 (by decide) hd (fun hd => ?_) (fun hd => ?_)
      · refine g_iconst (v := 0) C dX3_work_143 (by decide) ?_
        refine g_sub [0, 2] rfl ?_
        exact w_X3_work_b144 C E Q _ _ _ _ _ _ hd
      · refine g_iload_n C dX3_work_139 rfl 2 rfl ?_
        refine g_goto (tgt := 144) C dX3_work_140 (by decide) ?_
        refine g_sub [0, 2] rfl ?_
        exact w_X3_work_b144 C E Q _ _ _ _ _ _ hd
    · refine g_iload_n C dX3_work_110 rfl 2 rfl ?_
      refine g_iload C dX3_work_111 3 rfl ?_
      refine g_iadd C dX3_work_113 ?_
      refine g_istore_n (L' := [(3, vI (x3 + x4)), (0, vR x0), (2, vI x2), (4, vI x4)]) C dX3_work_114 rfl (by decide) rfl ?_
      refine g_aload_n C dX3_work_115 rfl 1 rfl ?_
      refine g_iload_n C dX3_work_116 rfl 2 rfl ?_
      refine g_iload_n C dX3_work_117 rfl 0 rfl ?_
      refine g_isub C dX3_work_118 ?_
      obtain ⟨hg, hd⟩ := gd_some hd
      obtain ⟨v4, S3, hc, hd⟩ := bn_some hd
      refine g_cV_v (n := 1) C (gk_X3).1 q2244 q2246 qs66 q108 q2247 (by decide +kernel) (by decide) (by decide) dX3_work_119 (As := [vI (x2 - (x3 + x4))]) (rest := []) rfl rfl (Nat.le_of_ble_eq_true rfl) hg (m_X3_does E hc) ?_
      refine g_istore (L' := [(4, vI v4), (3, vI (x3 + x4)), (0, vR x0), (2, vI x2)]) C dX3_work_122 (by decide) rfl ?_
      refine g_goto (tgt := 105) C dX3_work_124 (by decide) ?_
      refine g_sub [2, 3, 1, 0] rfl ?_
      exact ih _ _ _ _ _ hd
theorem w_X3_work_b95 {K : KT} {r : Int32} {S1 : St} (C : GC K RX3 cX3_work 6 7 []) (E : EH (kΓ K) (kHI K) (kl K)) (Q : GQ K (some (Jvm.ClassFile.FieldType.int)) (.inl (some (vI r))) S1) : ∀ (S : St) (x0 : Option Nat) (y0 : Int32), n_X3_work_b95 S x0 y0 = some (r, S1) → G K 6 S 95 [(0, vR x0)] [vI y0] := by
  intro S x0 y0 hd
  unfold n_X3_work_b95 at hd
  refine g_istore_n (L' := [(2, vI y0), (0, vR x0)]) C dX3_work_95 rfl (by decide) rfl ?_
  refine g_iconst (v := 0) C dX3_work_96 (by decide) ?_
  refine g_istore_n (L' := [(3, vI (0 : Int32)), (2, vI y0), (0, vR x0)]) C dX3_work_97 rfl (by decide) rfl ?_
  refine g_aload_n C dX3_work_98 rfl 2 rfl ?_
  refine g_iload_n C dX3_work_99 rfl 1 rfl ?_
  obtain ⟨hg, hd⟩ := gd_some hd
  obtain ⟨v2, S1, hc, hd⟩ := bn_some hd
  refine g_cV_v (n := 1) C (gk_X3).1 q2244 q2246 qs66 q108 q2247 (by decide +kernel) (by decide) (by decide) dX3_work_100 (As := [vI y0]) (rest := []) rfl rfl (Nat.le_of_ble_eq_true rfl) hg (m_X3_does E hc) ?_
  refine g_istore (L' := [(4, vI v2), (3, vI (0 : Int32)), (2, vI y0), (0, vR x0)]) C dX3_work_103 (by decide) rfl ?_
  refine g_sub [3, 2, 1, 0] rfl ?_
  exact w_X3_work_b105 C E Q FU _ _ _ _ _ hd
theorem w_X3_work_b94 {K : KT} {r : Int32} {S1 : St} (C : GC K RX3 cX3_work 6 7 []) (E : EH (kΓ K) (kHI K) (kl K)) (Q : GQ K (some (Jvm.ClassFile.FieldType.int)) (.inl (some (vI r))) S1) : ∀ (S : St) (x0 : Option Nat) (x1 : Int32), n_X3_work_b94 S x0 x1 = some (r, S1) → G K 6 S 94 [(0, vR x0), (1, vI x1)] [] := by
  intro S x0 x1 hd
  unfold n_X3_work_b94 at hd
  refine g_iload_n C dX3_work_94 rfl 1 rfl ?_
  refine g_sub [0] rfl ?_
  exact w_X3_work_b95 C E Q _ _ _ hd
theorem w_X3_work_b52 {K : KT} {r : Int32} {S1 : St} (C : GC K RX3 cX3_work 6 7 []) (E : EH (kΓ K) (kHI K) (kl K)) (Q : GQ K (some (Jvm.ClassFile.FieldType.int)) (.inl (some (vI r))) S1) : ∀ (S : St) (x0 : Option Nat) (x1 : Int32) (y0 : Int32) (y1 : Option Nat), n_X3_work_b52 S x0 x1 y0 y1 = some (r, S1) → G K 6 S 52 [(0, vR x0), (1, vI x1)] [vI y0, vR y1] := by
  intro S x0 x1 y0 y1 hd
  unfold n_X3_work_b52 at hd
  obtain ⟨S1, hS1, hd⟩ := Option.bind_eq_some_iff.mp hd
  refine g_put C gk_X3 (k := 36) (by decide) q2002 (Or.inl rfl) rfl dX3_work_52 (gfit_ok (pI_v hS1).1).1 (gfit_ok (pI_v hS1).1).2 (pI_v hS1).2 ?_
  refine g_aload_n C dX3_work_55 rfl 0 rfl ?_
  refine g_aload_n C dX3_work_56 rfl 0 rfl ?_
  obtain ⟨v2, hv2, hd⟩ := Option.bind_eq_some_iff.mp hd
  refine g_fld C gk_X3 (k := 1) (by decide) q1967 (Or.inl rfl) dX3_work_57 (gI_v hv2) ?_
  refine g_bipush (v := 60) C dX3_work_60 (by decide) ?_
  refine g_idiv C dX3_work_62 hd (fun hd => ?_)
  obtain ⟨S3, hS3, hd⟩ := Option.bind_eq_some_iff.mp hd
  refine g_put C gk_X3 (k := 35) (by decide) q2001 (Or.inl rfl) rfl dX3_work_63 (gfit_ok (pI_v hS3).1).1 (gfit_ok (pI_v hS3).1).2 (pI_v hS3).2 ?_
  refine g_aload_n C dX3_work_66 rfl 0 rfl ?_
  obtain ⟨v4, hv4, hd⟩ := Option.bind_eq_some_iff.mp hd
  refine g_fld C gk_X3 (k := 34) (by decide) q2000 (Or.inl rfl) dX3_work_67 (gI_v hv4) ?_
  refine g_if_eq (tgt := 94) C dX3_work_70 (by decide) hd (fun hd => ?_) (fun hd => ?_)
  · refine g_sub [0, 1] rfl ?_
    exact w_X3_work_b94 C E Q _ _ _ hd
  · refine g_bipush (v := 20) C dX3_work_73 (by decide) ?_
    refine g_aload_n C dX3_work_75 rfl 0 rfl ?_
    obtain ⟨v5, hv5, hd⟩ := Option.bind_eq_some_iff.mp hd
    refine g_fld C gk_X3 (k := 36) (by decide) q2002 (Or.inl rfl) dX3_work_76 (gI_v hv5) ?_
    refine g_isub C dX3_work_79 ?_
    refine g_iload_n C dX3_work_80 rfl 1 rfl ?_
    refine g_icmp_ge (tgt := 94) C dX3_work_81 (by decide) hd (fun hd => ?_) (fun hd => ?_)
    · refine g_sub [0, 1] rfl ?_
      exact w_X3_work_b94 C E Q _ _ _ hd
    · refine g_bipush (v := 20) C dX3_work_84 (by decide) ?_
      refine g_aload_n C dX3_work_86 rfl 0 rfl ?_
      obtain ⟨v6, hv6, hd⟩ := Option.bind_eq_some_iff.mp hd
      refine g_fld C gk_X3 (k := 36) (by decide) q2002 (Or.inl rfl) dX3_work_87 (gI_v hv6) ?_
      refine g_isub C dX3_work_90 ?_
      refine g_goto (tgt := 95) C dX3_work_91 (by decide) ?_
      refine g_sub [0] rfl ?_
      exact w_X3_work_b95 C E Q _ _ _ hd
theorem w_X3_work_b17 {K : KT} {r : Int32} {S1 : St} (C : GC K RX3 cX3_work 6 7 []) (E : EH (kΓ K) (kHI K) (kl K)) (Q : GQ K (some (Jvm.ClassFile.FieldType.int)) (.inl (some (vI r))) S1) : ∀ (S : St) (x0 : Option Nat) (x1 : Int32) (y0 : Int32) (y1 : Option Nat), n_X3_work_b17 S x0 x1 y0 y1 = some (r, S1) → G K 6 S 17 [(0, vR x0), (1, vI x1)] [vI y0, vR y1] := by
  intro S x0 x1 y0 y1 hd
  unfold n_X3_work_b17 at hd
  obtain ⟨S1, hS1, hd⟩ := Option.bind_eq_some_iff.mp hd
  refine g_put C gk_X3 (k := 0) (by decide) q1966 (Or.inl rfl) rfl dX3_work_17 (gfit_ok (pI_v hS1).1).1 (gfit_ok (pI_v hS1).1).2 (pI_v hS1).2 ?_
  refine g_aload_n C dX3_work_20 rfl 0 rfl ?_
  obtain ⟨v2, hv2, hd⟩ := Option.bind_eq_some_iff.mp hd
  refine g_fld C gk_X3 (k := 0) (by decide) q1966 (Or.inl rfl) dX3_work_21 (gI_v hv2) ?_
  refine g_if_le (tgt := 29) C dX3_work_24 (by decide) hd (fun hd => ?_) (fun hd => ?_)
  · refine g_aload_n C dX3_work_29 rfl 0 rfl ?_
    refine g_aload_n C dX3_work_30 rfl 0 rfl ?_
    obtain ⟨v3, hv3, hd⟩ := Option.bind_eq_some_iff.mp hd
    refine g_fld C gk_X3 (k := 35) (by decide) q2001 (Or.inl rfl) dX3_work_31 (gI_v hv3) ?_
    refine g_aload_n C dX3_work_34 rfl 0 rfl ?_
    obtain ⟨v4, hv4, hd⟩ := Option.bind_eq_some_iff.mp hd
    refine g_fld C gk_X3 (k := 1) (by decide) q1967 (Or.inl rfl) dX3_work_35 (gI_v hv4) ?_
    refine g_bipush (v := 60) C dX3_work_38 (by decide) ?_
    refine g_idiv C dX3_work_40 hd (fun hd => ?_)
    refine g_icmp_ne (tgt := 51) C dX3_work_41 (by decide) hd (fun hd => ?_) (fun hd => ?_)
    · refine g_iconst (v := 0) C dX3_work_51 (by decide) ?_
      refine g_sub [0, 1] rfl ?_
      exact w_X3_work_b52 C E Q _ _ _ _ _ hd
    · refine g_aload_n C dX3_work_44 rfl 0 rfl ?_
      obtain ⟨v5, hv5, hd⟩ := Option.bind_eq_some_iff.mp hd
      refine g_fld C gk_X3 (k := 36) (by decide) q2002 (Or.inl rfl) dX3_work_45 (gI_v hv5) ?_
      refine g_goto (tgt := 52) C dX3_work_48 (by decide) ?_
      refine g_sub [0, 1] rfl ?_
      exact w_X3_work_b52 C E Q _ _ _ _ _ hd
  · refine g_iconst (v := 0) C dX3_work_27 (by decide) ?_
    exact g_iret C Q hd dX3_work_28
theorem w_X3_work_b0m {K : KT} {r : Int32} {S1 : St} (C : GC K RX3 cX3_work 6 7 []) (E : EH (kΓ K) (kHI K) (kl K)) (Q : GQ K (some (Jvm.ClassFile.FieldType.int)) (.inl (some (vI r))) S1) : ∀ (S : St) (x0 : Option Nat) (x1 : Int32), n_X3_work S x0 x1 = some (r, S1) → G K 6 S 0 [(0, vR x0), (1, vI x1)] [] := by
  intro S x0 x1 hd
  unfold n_X3_work at hd
  refine g_aload_n C dX3_work_0 rfl 0 rfl ?_
  refine g_iload_n C dX3_work_1 rfl 1 rfl ?_
  refine g_iconst (v := 1) C dX3_work_2 (by decide) ?_
  refine g_sipush (v := 500) C dX3_work_3 (by decide) ?_
  obtain ⟨v2, S1, hc, hd⟩ := bn_some hd
  refine g_cS_v (n := 3) C q2124 q2125 q108 q2126 (by decide +kernel) (by decide) (by decide) dX3_work_6 (As := [vI x1, vI (1 : Int32), vI (500 : Int32)]) (rest := [vR x0]) rfl rfl (Nat.le_of_ble_eq_true rfl) (m_X3_in E hc) ?_
  refine g_if_eq (tgt := 16) C dX3_work_9 (by decide) hd (fun hd => ?_) (fun hd => ?_)
  · refine g_iconst (v := 1) C dX3_work_16 (by decide) ?_
    refine g_sub [0, 1] rfl ?_
    exact w_X3_work_b17 C E Q _ _ _ _ _ hd
  · refine g_iconst (v := 0) C dX3_work_12 (by decide) ?_
    refine g_goto (tgt := 17) C dX3_work_13 (by decide) ?_
    refine g_sub [0, 1] rfl ?_
    exact w_X3_work_b17 C E Q _ _ _ _ _ hd
theorem m_X3_work {Γ : GG} {HI : St → Heap → Prop} {l : Launch} (E : EH Γ HI l) {S : St} {a0 : Option Nat} {a1 : Int32} {r : Int32} {S1 : St} (h : n_X3_work S a0 a1 = some (r, S1)) : MS Γ HI l yX3_work cX3_work 6 (some (Jvm.ClassFile.FieldType.int)) 7 S [vR a0, vI a1] (.inl (some (vI r))) S1 := by
  refine MS_of E.ntr E.hx (by decide +kernel) rfl (Nat.le_of_ble_eq_true rfl) fun K e1 e2 e3 e4 hnm C Q => ?_
  subst e1; subst e2; subst e3
  exact w_X3_work_b0m C E Q S a0 a1 h

