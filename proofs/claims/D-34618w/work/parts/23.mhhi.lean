/-! the contracts of the JDK methods over the high heap -/
theorem mh_J2_init {Γ : GG} {HI : St → Heap → Prop} {l : Launch} (E : EH Γ HI l) {S : St} {a0 : Option Nat} {r : Unit} {S1 : St} (h : h_J2_init S a0 = some (r, S1)) : MS Γ HI l yJ2_init cJ2_init 1 none 4 S [vR a0] (.inl none) S1 :=
  MS_lift E (hm_J2_init h) fun SL O A => by
    obtain ⟨SL', O', g1, g2⟩ := ab_J2_init h A
    exact ⟨SL', O', m_J2_init E.el g1, g2⟩
theorem mh_J2_add {Γ : GG} {HI : St → Heap → Prop} {l : Launch} (E : EH Γ HI l) {S : St} {a0 : Option Nat} {a1 : Option Nat} {r : Int32} {S1 : St} (h : h_J2_add S a0 a1 = some (r, S1)) : MS Γ HI l yJ2_add cJ2_add 2 (some (Jvm.ClassFile.FieldType.boolean)) 8 S [vR a0, vR a1] (.inl (some (vI r))) S1 :=
  MS_lift E (hm_J2_add h) fun SL O A => by
    obtain ⟨SL', O', g1, g2⟩ := ab_J2_add h A
    exact ⟨SL', O', m_J2_add E.el g1, g2⟩
theorem mh_J2_size {Γ : GG} {HI : St → Heap → Prop} {l : Launch} (E : EH Γ HI l) {S : St} {a0 : Option Nat} {r : Int32} {S1 : St} (h : h_J2_size S a0 = some (r, S1)) : MS Γ HI l yJ2_size cJ2_size 1 (some (Jvm.ClassFile.FieldType.int)) 2 S [vR a0] (.inl (some (vI r))) S1 :=
  MS_lift E (hm_J2_size h) fun SL O A => by
    obtain ⟨SL', O', g1, g2⟩ := ab_J2_size h A
    exact ⟨SL', O', m_J2_size E.el g1, g2⟩
theorem mh_J2_isEmpty {Γ : GG} {HI : St → Heap → Prop} {l : Launch} (E : EH Γ HI l) {S : St} {a0 : Option Nat} {r : Int32} {S1 : St} (h : h_J2_isEmpty S a0 = some (r, S1)) : MS Γ HI l yJ2_isEmpty cJ2_isEmpty 1 (some (Jvm.ClassFile.FieldType.boolean)) 2 S [vR a0] (.inl (some (vI r))) S1 :=
  MS_lift E (hm_J2_isEmpty h) fun SL O A => by
    obtain ⟨SL', O', g1, g2⟩ := ab_J2_isEmpty h A
    exact ⟨SL', O', m_J2_isEmpty E.el g1, g2⟩
theorem mh_J2_get {Γ : GG} {HI : St → Heap → Prop} {l : Launch} (E : EH Γ HI l) {S : St} {a0 : Option Nat} {a1 : Int32} {r : Option Nat} {S1 : St} (h : h_J2_get S a0 a1 = some (r, S1)) : MS Γ HI l yJ2_get cJ2_get 2 (some (Jvm.ClassFile.FieldType.object "java/lang/Object")) 4 S [vR a0, vI a1] (.inl (some (vR r))) S1 :=
  MS_lift E (hm_J2_get h) fun SL O A => by
    obtain ⟨SL', O', g1, g2⟩ := ab_J2_get h A
    exact ⟨SL', O', m_J2_get E.el g1, g2⟩
theorem mh_J2_clear {Γ : GG} {HI : St → Heap → Prop} {l : Launch} (E : EH Γ HI l) {S : St} {a0 : Option Nat} {r : Unit} {S1 : St} (h : h_J2_clear S a0 = some (r, S1)) : MS Γ HI l yJ2_clear cJ2_clear 4 none 2 S [vR a0] (.inl none) S1 :=
  MS_lift E (hm_J2_clear h) fun SL O A => by
    obtain ⟨SL', O', g1, g2⟩ := ab_J2_clear h A
    exact ⟨SL', O', m_J2_clear E.el g1, g2⟩
theorem mh_J2_remove {Γ : GG} {HI : St → Heap → Prop} {l : Launch} (E : EH Γ HI l) {S : St} {a0 : Option Nat} {a1 : Int32} {r : Option Nat} {S1 : St} (h : h_J2_remove S a0 a1 = some (r, S1)) : MS Γ HI l yJ2_remove cJ2_remove 4 (some (Jvm.ClassFile.FieldType.object "java/lang/Object")) 4 S [vR a0, vI a1] (.inl (some (vR r))) S1 :=
  MS_lift E (hm_J2_remove h) fun SL O A => by
    obtain ⟨SL', O', g1, g2⟩ := ab_J2_remove h A
    exact ⟨SL', O', m_J2_remove E.el g1, g2⟩
theorem mh_J2_remove_2 {Γ : GG} {HI : St → Heap → Prop} {l : Launch} (E : EH Γ HI l) {S : St} {a0 : Option Nat} {a1 : Option Nat} {r : Int32} {S1 : St} (h : h_J2_remove_2 S a0 a1 = some (r, S1)) : MS Γ HI l yJ2_remove_2 cJ2_remove_2 5 (some (Jvm.ClassFile.FieldType.boolean)) 3 S [vR a0, vR a1] (.inl (some (vI r))) S1 :=
  MS_lift E (hm_J2_remove_2 h) fun SL O A => by
    obtain ⟨SL', O', g1, g2⟩ := ab_J2_remove_2 h A
    exact ⟨SL', O', m_J2_remove_2 E.el g1, g2⟩
theorem mh_J2_add_3 {Γ : GG} {HI : St → Heap → Prop} {l : Launch} (E : EH Γ HI l) {S : St} {a0 : Option Nat} {a1 : Int32} {a2 : Option Nat} {r : Unit} {S1 : St} (h : h_J2_add_3 S a0 a1 a2 = some (r, S1)) : MS Γ HI l yJ2_add_3 cJ2_add_3 5 none 7 S [vR a0, vI a1, vR a2] (.inl none) S1 :=
  MS_lift E (hm_J2_add_3 h) fun SL O A => by
    obtain ⟨SL', O', g1, g2⟩ := ab_J2_add_3 h A
    exact ⟨SL', O', m_J2_add_3 E.el g1, g2⟩
theorem mh_J2_iterator {Γ : GG} {HI : St → Heap → Prop} {l : Launch} (E : EH Γ HI l) {S : St} {a0 : Option Nat} {r : Option Nat} {S1 : St} (h : h_J2_iterator S a0 = some (r, S1)) : MS Γ HI l yJ2_iterator cJ2_iterator 1 (some (Jvm.ClassFile.FieldType.object "java/util/Iterator")) 3 S [vR a0] (.inl (some (vR r))) S1 :=
  MS_lift E (hm_J2_iterator h) fun SL O A => by
    obtain ⟨SL', O', g1, g2⟩ := ab_J2_iterator h A
    exact ⟨SL', O', m_J2_iterator E.el g1, g2⟩
theorem mh_J26_hasNext {Γ : GG} {HI : St → Heap → Prop} {l : Launch} (E : EH Γ HI l) {S : St} {a0 : Option Nat} {r : Int32} {S1 : St} (h : h_J26_hasNext S a0 = some (r, S1)) : MS Γ HI l yJ26_hasNext cJ26_hasNext 1 (some (Jvm.ClassFile.FieldType.boolean)) 2 S [vR a0] (.inl (some (vI r))) S1 :=
  MS_lift E (hm_J26_hasNext h) fun SL O A => by
    obtain ⟨SL', O', g1, g2⟩ := ab_J26_hasNext h A
    exact ⟨SL', O', m_J26_hasNext E.el g1, g2⟩
theorem mh_J26_next {Γ : GG} {HI : St → Heap → Prop} {l : Launch} (E : EH Γ HI l) {S : St} {a0 : Option Nat} {r : Option Nat} {S1 : St} (h : h_J26_next S a0 = some (r, S1)) : MS Γ HI l yJ26_next cJ26_next 3 (some (Jvm.ClassFile.FieldType.object "java/lang/Object")) 3 S [vR a0] (.inl (some (vR r))) S1 :=
  MS_lift E (hm_J26_next h) fun SL O A => by
    obtain ⟨SL', O', g1, g2⟩ := ab_J26_next h A
    exact ⟨SL', O', m_J26_next E.el g1, g2⟩
theorem mh_J26_remove {Γ : GG} {HI : St → Heap → Prop} {l : Launch} (E : EH Γ HI l) {S : St} {a0 : Option Nat} {r : Unit} {S1 : St} (h : h_J26_remove S a0 = some (r, S1)) : MSW Γ HI l yJ26_remove cJ26_remove 2 none [(19, 55, 58, 51)] 5 S [vR a0] (.inl none) S1 :=
  MSW_lift E (hm_J26_remove h) fun SL O A => by
    obtain ⟨SL', O', g1, g2⟩ := ab_J26_remove h A
    exact ⟨SL', O', m_J26_remove E.el g1, g2⟩
theorem mh_J4_init {Γ : GG} {HI : St → Heap → Prop} {l : Launch} (E : EH Γ HI l) {S : St} {a0 : Option Nat} {r : Unit} {S1 : St} (h : h_J4_init S a0 = some (r, S1)) : MS Γ HI l yJ4_init cJ4_init 1 none 5 S [vR a0] (.inl none) S1 :=
  MS_lift E (hm_J4_init h) fun SL O A => by
    obtain ⟨SL', O', g1, g2⟩ := ab_J4_init h A
    exact ⟨SL', O', m_J4_init E.el g1, g2⟩
theorem mh_J4_addLast {Γ : GG} {HI : St → Heap → Prop} {l : Launch} (E : EH Γ HI l) {S : St} {a0 : Option Nat} {a1 : Option Nat} {r : Unit} {S1 : St} (h : h_J4_addLast S a0 a1 = some (r, S1)) : MS Γ HI l yJ4_addLast cJ4_addLast 2 none 4 S [vR a0, vR a1] (.inl none) S1 :=
  MS_lift E (hm_J4_addLast h) fun SL O A => by
    obtain ⟨SL', O', g1, g2⟩ := ab_J4_addLast h A
    exact ⟨SL', O', m_J4_addLast E.el g1, g2⟩
theorem mh_J4_add {Γ : GG} {HI : St → Heap → Prop} {l : Launch} (E : EH Γ HI l) {S : St} {a0 : Option Nat} {a1 : Option Nat} {r : Int32} {S1 : St} (h : h_J4_add S a0 a1 = some (r, S1)) : MS Γ HI l yJ4_add cJ4_add 2 (some (Jvm.ClassFile.FieldType.boolean)) 4 S [vR a0, vR a1] (.inl (some (vI r))) S1 :=
  MS_lift E (hm_J4_add h) fun SL O A => by
    obtain ⟨SL', O', g1, g2⟩ := ab_J4_add h A
    exact ⟨SL', O', m_J4_add E.el g1, g2⟩
theorem mh_J4_size {Γ : GG} {HI : St → Heap → Prop} {l : Launch} (E : EH Γ HI l) {S : St} {a0 : Option Nat} {r : Int32} {S1 : St} (h : h_J4_size S a0 = some (r, S1)) : MS Γ HI l yJ4_size cJ4_size 1 (some (Jvm.ClassFile.FieldType.int)) 2 S [vR a0] (.inl (some (vI r))) S1 :=
  MS_lift E (hm_J4_size h) fun SL O A => by
    obtain ⟨SL', O', g1, g2⟩ := ab_J4_size h A
    exact ⟨SL', O', m_J4_size E.el g1, g2⟩
theorem mh_J4_clear {Γ : GG} {HI : St → Heap → Prop} {l : Launch} (E : EH Γ HI l) {S : St} {a0 : Option Nat} {r : Unit} {S1 : St} (h : h_J4_clear S a0 = some (r, S1)) : MS Γ HI l yJ4_clear cJ4_clear 3 none 2 S [vR a0] (.inl none) S1 :=
  MS_lift E (hm_J4_clear h) fun SL O A => by
    obtain ⟨SL', O', g1, g2⟩ := ab_J4_clear h A
    exact ⟨SL', O', m_J4_clear E.el g1, g2⟩
theorem mh_J4_getLast {Γ : GG} {HI : St → Heap → Prop} {l : Launch} (E : EH Γ HI l) {S : St} {a0 : Option Nat} {r : Option Nat} {S1 : St} (h : h_J4_getLast S a0 = some (r, S1)) : MS Γ HI l yJ4_getLast cJ4_getLast 2 (some (Jvm.ClassFile.FieldType.object "java/lang/Object")) 2 S [vR a0] (.inl (some (vR r))) S1 :=
  MS_lift E (hm_J4_getLast h) fun SL O A => by
    obtain ⟨SL', O', g1, g2⟩ := ab_J4_getLast h A
    exact ⟨SL', O', m_J4_getLast E.el g1, g2⟩
theorem mh_J4_removeLast {Γ : GG} {HI : St → Heap → Prop} {l : Launch} (E : EH Γ HI l) {S : St} {a0 : Option Nat} {r : Option Nat} {S1 : St} (h : h_J4_removeLast S a0 = some (r, S1)) : MS Γ HI l yJ4_removeLast cJ4_removeLast 2 (some (Jvm.ClassFile.FieldType.object "java/lang/Object")) 3 S [vR a0] (.inl (some (vR r))) S1 :=
  MS_lift E (hm_J4_removeLast h) fun SL O A => by
    obtain ⟨SL', O', g1, g2⟩ := ab_J4_removeLast h A
    exact ⟨SL', O', m_J4_removeLast E.el g1, g2⟩
theorem mh_J4_removeFirst {Γ : GG} {HI : St → Heap → Prop} {l : Launch} (E : EH Γ HI l) {S : St} {a0 : Option Nat} {r : Option Nat} {S1 : St} (h : h_J4_removeFirst S a0 = some (r, S1)) : MS Γ HI l yJ4_removeFirst cJ4_removeFirst 2 (some (Jvm.ClassFile.FieldType.object "java/lang/Object")) 3 S [vR a0] (.inl (some (vR r))) S1 :=
  MS_lift E (hm_J4_removeFirst h) fun SL O A => by
    obtain ⟨SL', O', g1, g2⟩ := ab_J4_removeFirst h A
    exact ⟨SL', O', m_J4_removeFirst E.el g1, g2⟩
theorem mh_J4_remove_2 {Γ : GG} {HI : St → Heap → Prop} {l : Launch} (E : EH Γ HI l) {S : St} {a0 : Option Nat} {a1 : Option Nat} {r : Int32} {S1 : St} (h : h_J4_remove_2 S a0 a1 = some (r, S1)) : MS Γ HI l yJ4_remove_2 cJ4_remove_2 3 (some (Jvm.ClassFile.FieldType.boolean)) 3 S [vR a0, vR a1] (.inl (some (vI r))) S1 :=
  MS_lift E (hm_J4_remove_2 h) fun SL O A => by
    obtain ⟨SL', O', g1, g2⟩ := ab_J4_remove_2 h A
    exact ⟨SL', O', m_J4_remove_2 E.el g1, g2⟩
theorem mh_J0_isEmpty {Γ : GG} {HI : St → Heap → Prop} {l : Launch} (E : EH Γ HI l) {S : St} {a0 : Option Nat} {r : Int32} {S1 : St} (h : h_J0_isEmpty S a0 = some (r, S1)) : MS Γ HI l yJ0_isEmpty cJ0_isEmpty 1 (some (Jvm.ClassFile.FieldType.boolean)) 3 S [vR a0] (.inl (some (vI r))) S1 :=
  MS_lift E (hm_J0_isEmpty h) fun SL O A => by
    obtain ⟨SL', O', g1, g2⟩ := ab_J0_isEmpty h A
    exact ⟨SL', O', m_J0_isEmpty E.el g1, g2⟩
theorem mh_J3_iterator {Γ : GG} {HI : St → Heap → Prop} {l : Launch} (E : EH Γ HI l) {S : St} {a0 : Option Nat} {r : Option Nat} {S1 : St} (h : h_J3_iterator S a0 = some (r, S1)) : MS Γ HI l yJ3_iterator cJ3_iterator 1 (some (Jvm.ClassFile.FieldType.object "java/util/Iterator")) 6 S [vR a0] (.inl (some (vR r))) S1 :=
  MS_lift E (hm_J3_iterator h) fun SL O A => by
    obtain ⟨SL', O', g1, g2⟩ := ab_J3_iterator h A
    exact ⟨SL', O', m_J3_iterator E.el g1, g2⟩
theorem mh_J29_hasNext {Γ : GG} {HI : St → Heap → Prop} {l : Launch} (E : EH Γ HI l) {S : St} {a0 : Option Nat} {r : Int32} {S1 : St} (h : h_J29_hasNext S a0 = some (r, S1)) : MS Γ HI l yJ29_hasNext cJ29_hasNext 1 (some (Jvm.ClassFile.FieldType.boolean)) 2 S [vR a0] (.inl (some (vI r))) S1 :=
  MS_lift E (hm_J29_hasNext h) fun SL O A => by
    obtain ⟨SL', O', g1, g2⟩ := ab_J29_hasNext h A
    exact ⟨SL', O', m_J29_hasNext E.el g1, g2⟩
theorem mh_J29_next {Γ : GG} {HI : St → Heap → Prop} {l : Launch} (E : EH Γ HI l) {S : St} {a0 : Option Nat} {r : Option Nat} {S1 : St} (h : h_J29_next S a0 = some (r, S1)) : MS Γ HI l yJ29_next cJ29_next 1 (some (Jvm.ClassFile.FieldType.object "java/lang/Object")) 3 S [vR a0] (.inl (some (vR r))) S1 :=
  MS_lift E (hm_J29_next h) fun SL O A => by
    obtain ⟨SL', O', g1, g2⟩ := ab_J29_next h A
    exact ⟨SL', O', m_J29_next E.el g1, g2⟩
theorem mh_J29_remove {Γ : GG} {HI : St → Heap → Prop} {l : Launch} (E : EH Γ HI l) {S : St} {a0 : Option Nat} {r : Unit} {S1 : St} (h : h_J29_remove S a0 = some (r, S1)) : MS Γ HI l yJ29_remove cJ29_remove 2 none 3 S [vR a0] (.inl none) S1 :=
  MS_lift E (hm_J29_remove h) fun SL O A => by
    obtain ⟨SL', O', g1, g2⟩ := ab_J29_remove h A
    exact ⟨SL', O', m_J29_remove E.el g1, g2⟩
theorem mh_J33_init {Γ : GG} {HI : St → Heap → Prop} {l : Launch} (E : EH Γ HI l) {S : St} {a0 : Option Nat} {r : Unit} {S1 : St} (h : h_J33_init S a0 = some (r, S1)) : MS Γ HI l yJ33_init cJ33_init 1 none 3 S [vR a0] (.inl none) S1 :=
  MS_lift E (hm_J33_init h) fun SL O A => by
    obtain ⟨SL', O', g1, g2⟩ := ab_J33_init h A
    exact ⟨SL', O', m_J33_init E.el g1, g2⟩
theorem mh_J33_add {Γ : GG} {HI : St → Heap → Prop} {l : Launch} (E : EH Γ HI l) {S : St} {a0 : Option Nat} {a1 : Option Nat} {r : Int32} {S1 : St} (h : h_J33_add S a0 a1 = some (r, S1)) : MS Γ HI l yJ33_add cJ33_add 2 (some (Jvm.ClassFile.FieldType.boolean)) 7 S [vR a0, vR a1] (.inl (some (vI r))) S1 :=
  MS_lift E (hm_J33_add h) fun SL O A => by
    obtain ⟨SL', O', g1, g2⟩ := ab_J33_add h A
    exact ⟨SL', O', m_J33_add E.el g1, g2⟩
theorem mh_J33_addLast {Γ : GG} {HI : St → Heap → Prop} {l : Launch} (E : EH Γ HI l) {S : St} {a0 : Option Nat} {a1 : Option Nat} {r : Unit} {S1 : St} (h : h_J33_addLast S a0 a1 = some (r, S1)) : MS Γ HI l yJ33_addLast cJ33_addLast 3 none 6 S [vR a0, vR a1] (.inl none) S1 :=
  MS_lift E (hm_J33_addLast h) fun SL O A => by
    obtain ⟨SL', O', g1, g2⟩ := ab_J33_addLast h A
    exact ⟨SL', O', m_J33_addLast E.el g1, g2⟩
theorem mh_J33_removeFirst {Γ : GG} {HI : St → Heap → Prop} {l : Launch} (E : EH Γ HI l) {S : St} {a0 : Option Nat} {r : Option Nat} {S1 : St} (h : h_J33_removeFirst S a0 = some (r, S1)) : MS Γ HI l yJ33_removeFirst cJ33_removeFirst 2 (some (Jvm.ClassFile.FieldType.object "java/lang/Object")) 4 S [vR a0] (.inl (some (vR r))) S1 :=
  MS_lift E (hm_J33_removeFirst h) fun SL O A => by
    obtain ⟨SL', O', g1, g2⟩ := ab_J33_removeFirst h A
    exact ⟨SL', O', m_J33_removeFirst E.el g1, g2⟩
theorem mh_J33_contains {Γ : GG} {HI : St → Heap → Prop} {l : Launch} (E : EH Γ HI l) {S : St} {a0 : Option Nat} {a1 : Option Nat} {r : Int32} {S1 : St} (h : h_J33_contains S a0 a1 = some (r, S1)) : MS Γ HI l yJ33_contains cJ33_contains 6 (some (Jvm.ClassFile.FieldType.boolean)) 3 S [vR a0, vR a1] (.inl (some (vI r))) S1 :=
  MS_lift E (hm_J33_contains h) fun SL O A => by
    obtain ⟨SL', O', g1, g2⟩ := ab_J33_contains h A
    exact ⟨SL', O', m_J33_contains E.el g1, g2⟩
theorem mh_J33_isEmpty {Γ : GG} {HI : St → Heap → Prop} {l : Launch} (E : EH Γ HI l) {S : St} {a0 : Option Nat} {r : Int32} {S1 : St} (h : h_J33_isEmpty S a0 = some (r, S1)) : MS Γ HI l yJ33_isEmpty cJ33_isEmpty 1 (some (Jvm.ClassFile.FieldType.boolean)) 2 S [vR a0] (.inl (some (vI r))) S1 :=
  MS_lift E (hm_J33_isEmpty h) fun SL O A => by
    obtain ⟨SL', O', g1, g2⟩ := ab_J33_isEmpty h A
    exact ⟨SL', O', m_J33_isEmpty E.el g1, g2⟩
theorem mh_J5_init {Γ : GG} {HI : St → Heap → Prop} {l : Launch} (E : EH Γ HI l) {S : St} {a0 : Option Nat} {a1 : Int32} {r : Unit} {S1 : St} (h : h_J5_init S a0 a1 = some (r, S1)) : MS Γ HI l yJ5_init cJ5_init 2 none 4 S [vR a0, vI a1] (.inl none) S1 :=
  MS_lift E (hm_J5_init h) fun SL O A => by
    obtain ⟨SL', O', g1, g2⟩ := ab_J5_init h A
    exact ⟨SL', O', m_J5_init E.el g1, g2⟩
theorem mh_J5_set {Γ : GG} {HI : St → Heap → Prop} {l : Launch} (E : EH Γ HI l) {S : St} {a0 : Option Nat} {a1 : Int32} {r : Unit} {S1 : St} (h : h_J5_set S a0 a1 = some (r, S1)) : MS Γ HI l yJ5_set cJ5_set 3 none 5 S [vR a0, vI a1] (.inl none) S1 :=
  MS_lift E (hm_J5_set h) fun SL O A => by
    obtain ⟨SL', O', g1, g2⟩ := ab_J5_set h A
    exact ⟨SL', O', m_J5_set E.el g1, g2⟩
theorem mh_J5_get {Γ : GG} {HI : St → Heap → Prop} {l : Launch} (E : EH Γ HI l) {S : St} {a0 : Option Nat} {a1 : Int32} {r : Int32} {S1 : St} (h : h_J5_get S a0 a1 = some (r, S1)) : MS Γ HI l yJ5_get cJ5_get 3 (some (Jvm.ClassFile.FieldType.boolean)) 3 S [vR a0, vI a1] (.inl (some (vI r))) S1 :=
  MS_lift E (hm_J5_get h) fun SL O A => by
    obtain ⟨SL', O', g1, g2⟩ := ab_J5_get h A
    exact ⟨SL', O', m_J5_get E.el g1, g2⟩
theorem mh_J5_clear {Γ : GG} {HI : St → Heap → Prop} {l : Launch} (E : EH Γ HI l) {S : St} {a0 : Option Nat} {r : Unit} {S1 : St} (h : h_J5_clear S a0 = some (r, S1)) : MS Γ HI l yJ5_clear cJ5_clear 1 none 2 S [vR a0] (.inl none) S1 :=
  MS_lift E (hm_J5_clear h) fun SL O A => by
    obtain ⟨SL', O', g1, g2⟩ := ab_J5_clear h A
    exact ⟨SL', O', m_J5_clear E.el g1, g2⟩
theorem mh_J5_nextSetBit {Γ : GG} {HI : St → Heap → Prop} {l : Launch} (E : EH Γ HI l) {S : St} {a0 : Option Nat} {a1 : Int32} {r : Int32} {S1 : St} (h : h_J5_nextSetBit S a0 a1 = some (r, S1)) : MS Γ HI l yJ5_nextSetBit cJ5_nextSetBit 5 (some (Jvm.ClassFile.FieldType.int)) 4 S [vR a0, vI a1] (.inl (some (vI r))) S1 :=
  MS_lift E (hm_J5_nextSetBit h) fun SL O A => by
    obtain ⟨SL', O', g1, g2⟩ := ab_J5_nextSetBit h A
    exact ⟨SL', O', m_J5_nextSetBit E.el g1, g2⟩
