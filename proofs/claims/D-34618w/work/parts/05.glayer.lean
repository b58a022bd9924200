def g_faces : List (String × MethodName × MethodName) := [("java/util/ArrayList", ⟨"java/util/List", "add", "(Ljava/lang/Object;)Z"⟩, ⟨"java/util/ArrayList", "add", "(Ljava/lang/Object;)Z"⟩), ("java/util/ArrayList", ⟨"java/util/List", "size", "()I"⟩, ⟨"java/util/ArrayList", "size", "()I"⟩), ("java/util/ArrayList", ⟨"java/util/List", "get", "(I)Ljava/lang/Object;"⟩, ⟨"java/util/ArrayList", "get", "(I)Ljava/lang/Object;"⟩), ("java/util/ArrayList", ⟨"java/util/List", "iterator", "()Ljava/util/Iterator;"⟩, ⟨"java/util/ArrayList", "iterator", "()Ljava/util/Iterator;"⟩), ("java/util/ArrayList", ⟨"java/util/List", "clear", "()V"⟩, ⟨"java/util/ArrayList", "clear", "()V"⟩), ("java/util/ArrayList", ⟨"java/util/List", "remove", "(Ljava/lang/Object;)Z"⟩, ⟨"java/util/ArrayList", "remove", "(Ljava/lang/Object;)Z"⟩), ("java/util/ArrayList", ⟨"java/util/List", "isEmpty", "()Z"⟩, ⟨"java/util/ArrayList", "isEmpty", "()Z"⟩), ("java/util/ArrayList", ⟨"java/util/List", "remove", "(I)Ljava/lang/Object;"⟩, ⟨"java/util/ArrayList", "remove", "(I)Ljava/lang/Object;"⟩), ("java/util/ArrayList", ⟨"java/util/List", "add", "(ILjava/lang/Object;)V"⟩, ⟨"java/util/ArrayList", "add", "(ILjava/lang/Object;)V"⟩), ("java/util/ArrayList$Itr", ⟨"java/util/Iterator", "hasNext", "()Z"⟩, ⟨"java/util/ArrayList$Itr", "hasNext", "()Z"⟩), ("java/util/ArrayList$Itr", ⟨"java/util/Iterator", "next", "()Ljava/lang/Object;"⟩, ⟨"java/util/ArrayList$Itr", "next", "()Ljava/lang/Object;"⟩), ("java/util/ArrayList$Itr", ⟨"java/util/Iterator", "remove", "()V"⟩, ⟨"java/util/ArrayList$Itr", "remove", "()V"⟩), ("java/util/LinkedList$ListItr", ⟨"java/util/Iterator", "hasNext", "()Z"⟩, ⟨"java/util/LinkedList$ListItr", "hasNext", "()Z"⟩), ("java/util/LinkedList$ListItr", ⟨"java/util/Iterator", "next", "()Ljava/lang/Object;"⟩, ⟨"java/util/LinkedList$ListItr", "next", "()Ljava/lang/Object;"⟩), ("java/util/LinkedList$ListItr", ⟨"java/util/Iterator", "remove", "()V"⟩, ⟨"java/util/LinkedList$ListItr", "remove", "()V"⟩), ("java/util/LinkedList", ⟨"java/util/List", "add", "(Ljava/lang/Object;)Z"⟩, ⟨"java/util/LinkedList", "add", "(Ljava/lang/Object;)Z"⟩), ("java/util/LinkedList", ⟨"java/util/List", "size", "()I"⟩, ⟨"java/util/LinkedList", "size", "()I"⟩), ("java/util/LinkedList", ⟨"java/util/List", "get", "(I)Ljava/lang/Object;"⟩, ⟨"java/util/LinkedList", "get", "(I)Ljava/lang/Object;"⟩), ("java/util/LinkedList", ⟨"java/util/List", "iterator", "()Ljava/util/Iterator;"⟩, ⟨"java/util/AbstractSequentialList", "iterator", "()Ljava/util/Iterator;"⟩), ("java/util/LinkedList", ⟨"java/util/List", "clear", "()V"⟩, ⟨"java/util/LinkedList", "clear", "()V"⟩), ("java/util/LinkedList", ⟨"java/util/List", "remove", "(Ljava/lang/Object;)Z"⟩, ⟨"java/util/LinkedList", "remove", "(Ljava/lang/Object;)Z"⟩), ("java/util/LinkedList", ⟨"java/util/List", "isEmpty", "()Z"⟩, ⟨"java/util/AbstractCollection", "isEmpty", "()Z"⟩), ("java/util/LinkedList", ⟨"java/util/List", "remove", "(I)Ljava/lang/Object;"⟩, ⟨"java/util/LinkedList", "remove", "(I)Ljava/lang/Object;"⟩), ("java/util/LinkedList", ⟨"java/util/List", "add", "(ILjava/lang/Object;)V"⟩, ⟨"java/util/LinkedList", "add", "(ILjava/lang/Object;)V"⟩)]
theorem g_faces_ok : ∀ t ∈ g_faces, t.2.1.cls ≠ "java/lang/invoke/MethodHandle" ∧ t.2.1.cls ≠ "java/lang/invoke/VarHandle" := by decide +kernel
theorem g_faces_of {A : Array Value} {U : State} (h : ∀ w ∈ lw_tbl, w.before A U = true) : ∀ t ∈ g_faces, va_Fw t.1 t.2.1 t.2.2 U := by
  unfold g_faces
  simp only [List.forall_mem_cons]
  exact ⟨va_Fw.of (h _ q276) (h _ q275) (h _ q281) (h _ q279) (h _ q277), va_Fw.of (h _ q429) (h _ q428) (h _ q433) (h _ q431) (h _ q277), va_Fw.of (h _ q443) (h _ q442) (h _ q447) (h _ q445) (h _ q277), va_Fw.of (h _ q814) (h _ q813) (h _ q818) (h _ q816) (h _ q277), va_Fw.of (h _ q1264) (h _ q1263) (h _ q1268) (h _ q1266) (h _ q277), va_Fw.of (h _ q1663) (h _ q1662) (h _ q1667) (h _ q1665) (h _ q277), va_Fw.of (h _ q1848) (h _ q1847) (h _ q1852) (h _ q1850) (h _ q277), va_Fw.of (h _ q1870) (h _ q1869) (h _ q1873) (h _ q1872) (h _ q277), va_Fw.of (h _ q1924) (h _ q1923) (h _ q1928) (h _ q1926) (h _ q277), va_Fw.of (h _ q927) (h _ q926) (h _ q943) (h _ q941) (h _ q939), va_Fw.of (h _ q957) (h _ q956) (h _ q1035) (h _ q1033) (h _ q939), va_Fw.of (h _ q1301) (h _ q1300) (h _ q1344) (h _ q1342) (h _ q939), va_Fw.of (h _ q927) (h _ q926) (h _ q952) (h _ q950) (h _ q948), va_Fw.of (h _ q957) (h _ q956) (h _ q1048) (h _ q1046) (h _ q948), va_Fw.of (h _ q1301) (h _ q1300) (h _ q1356) (h _ q1354) (h _ q948), va_Fw.of (h _ q276) (h _ q275) (h _ q358) (h _ q356) (h _ q354), va_Fw.of (h _ q429) (h _ q428) (h _ q438) (h _ q436) (h _ q354), va_Fw.of (h _ q443) (h _ q442) (h _ q462) (h _ q460) (h _ q354), va_Fw.of (h _ q814) (h _ q813) (h _ q844) (h _ q842) (h _ q354), va_Fw.of (h _ q1264) (h _ q1263) (h _ q1272) (h _ q1271) (h _ q354), va_Fw.of (h _ q1663) (h _ q1662) (h _ q1672) (h _ q1671) (h _ q354), va_Fw.of (h _ q1848) (h _ q1847) (h _ q1856) (h _ q1855) (h _ q354), va_Fw.of (h _ q1870) (h _ q1869) (h _ q1876) (h _ q1875) (h _ q354), va_Fw.of (h _ q1924) (h _ q1923) (h _ q1933) (h _ q1931) (h _ q354), fun _ h => nomatch h⟩
/-! THE G LAYER: an abstract heap (cells by address), and the judgement G over it: the machine, at frame (pc, locals, stack) with a heap that holds the abstract one, comes to its end -/
abbrev TV : Type := Int32 ⊕ Option Nat ⊕ Int64
abbrev vI (x : Int32) : TV := .inl x
abbrev vR (r : Option Nat) : TV := .inr (.inl r)
abbrev vL (x : Int64) : TV := .inr (.inr x)
def tv : TV → Value
  | .inl x => .int x
  | .inr (.inl r) => va_rf r
  | .inr (.inr x) => .long x
def gcat1 : TV → Bool
  | .inr (.inr _) => false
  | _ => true
theorem gcat1_cat (v : TV) (h : gcat1 v = true) : (tv v).category = 1 := by
  rcases v with x | r | x
  · rfl
  · cases r <;> rfl
  · cases h
/-- a cell: an array (kind, length, contents), an object (class, fields), an ArrayList (modCount, capacity, items), a LinkedList (modCount, nodes with items), an ArrayDeque (capacity, items), a BitSet's word, the reference's numbers and arrays, a boxed constant, an iterator's kin -/
abbrev CE : Type := (Nat × Nat × (Nat → TV)) ⊕ (Nat × List TV) ⊕ (Int32 × Nat × List (Option Nat)) ⊕ (Int32 × List (Nat × Option Nat)) ⊕ (Nat × List (Option Nat)) ⊕ Int64 ⊕ ((Nat → Int32) × (Nat → Nat → Int32)) ⊕ Int32
abbrev cA (k n : Nat) (f : Nat → TV) : CE := .inl (k, n, f)
abbrev cO (c : Nat) (fs : List TV) : CE := .inr (.inl (c, fs))
abbrev cAL (md : Int32) (cap : Nat) (xs : List (Option Nat)) : CE := .inr (.inr (.inl (md, cap, xs)))
abbrev cLL (md : Int32) (xs : List (Nat × Option Nat)) : CE := .inr (.inr (.inr (.inl (md, xs))))
abbrev cDQ (cap : Nat) (xs : List (Option Nat)) : CE := .inr (.inr (.inr (.inr (.inl (cap, xs)))))
abbrev cBS (w : Int64) : CE := .inr (.inr (.inr (.inr (.inr (.inl w)))))
abbrev cMD (z : (Nat → Int32) × (Nat → Nat → Int32)) : CE := .inr (.inr (.inr (.inr (.inr (.inr (.inl z))))))
abbrev cBX (x : Int32) : CE := .inr (.inr (.inr (.inr (.inr (.inr (.inr x))))))
/-- an abstract heap: cells by address, how many cells there are, slots made so far, the addresses of constants -/
abbrev St : Type := (Nat → Option CE) × Nat × Nat × (Nat → Nat)
def sup (S : St) (q : Nat) (e : CE) : St := (fun a => if a = q then some e else S.1 a, S.2.1, S.2.2.1, S.2.2.2)
def spu (S : St) (e : CE) (n : Nat) : St := (fun a => if a = S.2.1 then some e else S.1 a, S.2.1 + 1, S.2.2.1 + n, S.2.2.2)
def ssk (S : St) (n : Nat) : St := (S.1, S.2.1 + 1, S.2.2.1 + n, S.2.2.2)
/-- the world's constants: class numbers and slots, array classes by kind, the heap at the law's entry, constants' addresses -/
abbrev GG : Type := va_G × (Nat → ClassId) × Heap × (Nat → Nat)
def gb0 (Γ : GG) : Nat := Γ.2.2.1.size
def g_ty : Nat → FieldType
  | 0 => .int
  | 1 => .boolean
  | 2 => .char
  | 3 => .long
  | 4 => .object "java/lang/Object"
  | _ => .object "SearchKeeper$Entry"
def g_tys (Γ : GG) : List (ClassId × FieldType) := [(Γ.2.1 0, .int), (Γ.2.1 1, .boolean), (Γ.2.1 2, .char), (Γ.2.1 3, .long), (Γ.2.1 4, .object "java/lang/Object"), (Γ.2.1 5, .object "SearchKeeper$Entry")]
def g_cl : List vw_C := [(RX1, TX1, 12), (RX2, TX2, 9), (RX4, TX4, 2), (RX5, TX5, 3), (RX6, TX6, 5), (RX7, TX7, 6), (RX8, TX8, 5), (RX9, TX9, 2), (RJ2, TJ2, 3), (RJ4, TJ4, 4), (RJ5, TJ5, 3), (RJ9, TJ9, 3), (RJ26, TJ26, 4), (RJ29, TJ29, 5), (RJ33, TJ33, 3), (RX3, TX3, 46), (RJ23, TJ23, 1)]
/-- what the machine's heap holds at q for a cell -/
def gK (Γ : GG) (k n : Nat) (f : Nat → TV) (q : Nat) (H : Heap) : Prop := ∃ cell : Cell, H[q]? = some cell ∧ cell.cls = Γ.2.1 k ∧ (∀ z, cell.vm ≠ .statics z) ∧ cell.vm ≠ .unknown ∧ cell.slots.size = n ∧ ∀ j : Nat, j < n → cell.slots[j]? = some (tv (f j))
def gC (Γ : GG) (c : Nat) (q : Nat) (H : Heap) : Prop := ∃ cell : Cell, H[q]? = some cell ∧ cell.cls = Γ.1.1 c ∧ cell.vm.isStatics = false ∧ cell.vm ≠ .unknown
def gAt (Γ : GG) (q : Nat) (e : CE) (H : Heap) : Prop := match e with
  | .inl (k, n, f) => if k < 10 then H[q]? = some (arrV (Γ.2.1 k) n (fun j => tv (f j))) else gK Γ (k - 10) n f q H
  | .inr (.inl (c, fs)) => va_at Γ.1 g_cl (q, .inr (c, fs.map tv)) H
  | .inr (.inr (.inl _)) => gC Γ 8 q H
  | .inr (.inr (.inr (.inl _))) => gC Γ 9 q H
  | .inr (.inr (.inr (.inr (.inl _)))) => gC Γ 14 q H
  | .inr (.inr (.inr (.inr (.inr (.inl _))))) => gC Γ 10 q H
  | .inr (.inr (.inr (.inr (.inr (.inr (.inl _)))))) => gC Γ 15 q H
  | .inr (.inr (.inr (.inr (.inr (.inr (.inr x)))))) => ∃ cell : Cell, H[q]? = some cell ∧ cell.cls = Γ.1.1 16 ∧ cell.vm.isStatics = false ∧ cell.vm ≠ .unknown ∧ cell.slots[Γ.1.2 16 0]? = some (.int x)
theorem gAt_lt {Γ : GG} {q : Nat} {e : CE} {H : Heap} (h : gAt Γ q e H) : q < H.size := by
  rcases e with ⟨k, n, f⟩ | ⟨c, fs⟩ | x | x | x | x | x | x
  · simp only [gAt] at h
    split at h
    · exact (Array.getElem?_eq_some_iff.mp h).1
    · obtain ⟨cell, h, -⟩ := h
      exact (Array.getElem?_eq_some_iff.mp h).1
  · exact va_at.lt (q := (q, .inr (c, fs.map tv))) h
  all_goals
    obtain ⟨cell, h, -⟩ := h
    exact (Array.getElem?_eq_some_iff.mp h).1
theorem gAt_kept {Γ : GG} {q : Nat} {e : CE} {H H1 : Heap} (h : gAt Γ q e H) (hq : H1[q]? = H[q]?) : gAt Γ q e H1 := by
  rcases e with ⟨k, n, f⟩ | ⟨c, fs⟩ | x | x | x | x | x | x
  · simp only [gAt] at h ⊢
    split
    · next hk => rw [if_pos hk] at h; rw [hq]; exact h
    · next hk =>
      rw [if_neg hk] at h
      obtain ⟨cell, h, r⟩ := h
      exact ⟨cell, by rw [hq]; exact h, r⟩
  · exact va_at.kept (q := (q, .inr (c, fs.map tv))) h hq
  all_goals
    obtain ⟨cell, h, r⟩ := h
    exact ⟨cell, by rw [hq]; exact h, r⟩
/-- what a relation of abstract and machine heap must do -/
def HIx (Γ : GG) (HI : St → Heap → Prop) : Prop :=
  (∀ S H q e, HI S H → S.1 q = some e → gAt Γ q e H) ∧
  (∀ S H H1 q c fs fs', HI S H → S.1 q = some (cO c fs) → fs'.length = fs.length → H1.size = H.size → (∀ a : Nat, a ≠ q → H1[a]? = H[a]?) → gAt Γ q (cO c fs') H1 → HI (sup S q (cO c fs')) H1) ∧
  (∀ S H H1 q k n f f', HI S H → S.1 q = some (cA k n f) → k < 10 → H1.size = H.size → (∀ a : Nat, a ≠ q → H1[a]? = H[a]?) → gAt Γ q (cA k n f') H1 → HI (sup S q (cA k n f')) H1) ∧
  (∀ S H H1 e n, HI S H → ((∃ c fs, e = cO c fs) ∨ ∃ k m f, k < 10 ∧ e = cA k m f) → H1.size = H.size + 1 → (∀ a : Nat, a < H.size → H1[a]? = H[a]?) → gAt Γ H.size e H1 → HI (spu S e n) H1) ∧
  (∀ S H H1 n, HI S H → H1.size = H.size + 1 → (∀ a : Nat, a < H.size → H1[a]? = H[a]?) → HI (ssk S n) H1) ∧
  (∀ S H, HI S H → H.size = S.2.1) ∧
  (∀ S H, HI S H → gb0 Γ ≤ H.size ∧ ∀ a : Nat, a < gb0 Γ → H[a]? = Γ.2.2.1[a]?) ∧
  (∀ S H q c fs, HI S H → S.1 q = some (cO c fs) → gb0 Γ ≤ q) ∧
  (∀ S H q k n f, HI S H → S.1 q = some (cA k n f) → k < 10 → gb0 Γ ≤ q) ∧
  (∀ S H, HI S H → S.2.2.2 = Γ.2.2.2)
/-- the plain relation: every cell of the abstract heap is an object or an array that lies there -/
def gBase (e : CE) : Prop := match e with
  | .inl _ => True
  | .inr (.inl _) => True
  | .inr (.inr (.inr (.inr (.inr (.inr (.inr _)))))) => True
  | _ => False
def gOldOK (e : CE) : Prop := match e with
  | .inl (k, _, _) => 10 ≤ k
  | .inr (.inr (.inr (.inr (.inr (.inr (.inr _)))))) => True
  | _ => False
def HIlo (Γ : GG) (S : St) (H : Heap) : Prop :=
  H.size = S.2.1 ∧ (gb0 Γ ≤ H.size ∧ ∀ a : Nat, a < gb0 Γ → H[a]? = Γ.2.2.1[a]?) ∧ S.2.2.2 = Γ.2.2.2 ∧ ∀ q e, S.1 q = some e → gBase e ∧ gAt Γ q e H ∧ (q < gb0 Γ → gOldOK e)
theorem HIlo_x (Γ : GG) : HIx Γ (HIlo Γ) := by
  refine ⟨fun S H q e h hq => (h.2.2.2 q e hq).2.1, ?_, ?_, ?_, ?_, fun S H h => h.1, fun S H h => h.2.1, ?_, ?_, fun S H h => h.2.2.1⟩
  · intro S H H1 q c fs fs' h hq hl hz ho hat
    obtain ⟨h1, h2, h3, h4⟩ := h
    have hb : gb0 Γ ≤ q := Nat.le_of_not_lt fun hlt => (h4 q _ hq).2.2 hlt
    refine ⟨hz.trans h1, ⟨by rw [hz]; exact h2.1, fun a ha => (ho a (by omega)).trans (h2.2 a ha)⟩, h3, fun a e he => ?_⟩
    simp only [sup] at he
    split at he
    · next e1 => subst e1; cases he; exact ⟨trivial, hat, fun hlt => absurd hlt (by omega)⟩
    · next e1 => obtain ⟨g1, g2, g3⟩ := h4 a e he; exact ⟨g1, gAt_kept g2 (ho a e1), g3⟩
  · intro S H H1 q k n f f' h hq hk hz ho hat
    obtain ⟨h1, h2, h3, h4⟩ := h
    have hb : gb0 Γ ≤ q := Nat.le_of_not_lt fun hlt => by
      have := (h4 q _ hq).2.2 hlt
      simp only [gOldOK] at this
      omega
    refine ⟨hz.trans h1, ⟨by rw [hz]; exact h2.1, fun a ha => (ho a (by omega)).trans (h2.2 a ha)⟩, h3, fun a e he => ?_⟩
    simp only [sup] at he
    split at he
    · next e1 => subst e1; cases he; exact ⟨trivial, hat, fun hlt => absurd hlt (by omega)⟩
    · next e1 => obtain ⟨g1, g2, g3⟩ := h4 a e he; exact ⟨g1, gAt_kept g2 (ho a e1), g3⟩
  · intro S H H1 e n h hbs hz ho hat
    obtain ⟨h1, h2, h3, h4⟩ := h
    refine ⟨by simp only [spu]; omega, ⟨by omega, fun a ha => (ho a (by omega)).trans (h2.2 a ha)⟩, h3, fun a e2 he => ?_⟩
    simp only [spu] at he
    split at he
    · next e1 =>
      cases he
      subst e1
      rw [← h1]
      refine ⟨?_, hat, fun hlt => absurd hlt (by omega)⟩
      rcases hbs with ⟨c, fs, rfl⟩ | ⟨k, m, f, -, rfl⟩ <;> trivial
    · next e1 =>
      obtain ⟨g1, g2, g3⟩ := h4 a e2 he
      exact ⟨g1, gAt_kept g2 (ho a (gAt_lt g2)), g3⟩
  · intro S H H1 n h hz ho
    obtain ⟨h1, h2, h3, h4⟩ := h
    refine ⟨by simp only [ssk]; omega, ⟨by omega, fun a ha => (ho a (by omega)).trans (h2.2 a ha)⟩, h3, fun a e2 he => ?_⟩
    obtain ⟨g1, g2, g3⟩ := h4 a e2 he
    exact ⟨g1, gAt_kept g2 (ho a (gAt_lt g2)), g3⟩
  · intro S H q c fs h hq
    exact Nat.le_of_not_lt fun hlt => (h.2.2.2 q _ hq).2.2 hlt
  · intro S H q k n f h hq hk
    exact Nat.le_of_not_lt fun hlt => by
      have := (h.2.2.2 q _ hq).2.2 hlt
      simp only [gOldOK] at this
      omega
/-! what a method's walk rests on: KT holds the machine's and the world's names -/
abbrev KT : Type := GG × (St → Heap → Prop) × Program × Launch × Env × Room × State × MethodId × Array Value × List Frame × Method × Code × (State → Prop) × St × St × Prop
abbrev kΓ (K : KT) : GG := K.1
abbrev kHI (K : KT) : St → Heap → Prop := K.2.1
abbrev kp (K : KT) : Program := K.2.2.1
abbrev kl (K : KT) : Launch := K.2.2.2.1
abbrev ke (K : KT) : Env := K.2.2.2.2.1
abbrev kR (K : KT) : Room := K.2.2.2.2.2.1
abbrev ks (K : KT) : State := K.2.2.2.2.2.2.1
abbrev km (K : KT) : MethodId := K.2.2.2.2.2.2.2.1
abbrev ka (K : KT) : Array Value := K.2.2.2.2.2.2.2.2.1
abbrev kb (K : KT) : List Frame := K.2.2.2.2.2.2.2.2.2.1
abbrev kme (K : KT) : Method := K.2.2.2.2.2.2.2.2.2.2.1
abbrev kc (K : KT) : Code := K.2.2.2.2.2.2.2.2.2.2.2.1
abbrev kQ (K : KT) : State → Prop := K.2.2.2.2.2.2.2.2.2.2.2.2.1
abbrev kS0 (K : KT) : St := K.2.2.2.2.2.2.2.2.2.2.2.2.2.1
abbrev kS1 (K : KT) : St := K.2.2.2.2.2.2.2.2.2.2.2.2.2.2.1
/-- whether there is a machine at all (without one, a walk shows that cells and slots grow) -/
abbrev kLv (K : KT) : Prop := K.2.2.2.2.2.2.2.2.2.2.2.2.2.2.2
/-- words of the tables that ride beside lw_all -/
def g_keep (w : Cond) : Bool := match w with
  | .fieldLinkNest .. => true
  | .methodLinkNest .. => true
  | .castable .. => true
  | .declares .. => true
  | _ => false
def gA (Γ : GG) : Nat → Prop := fun q => gb0 Γ ≤ q
def KK (Γ : GG) (U : State) : Prop :=
  va_K Γ.1 g_cl (g_tys Γ) U ∧ (∀ w ∈ lw_tbl, g_keep w = true → va_Nw w U) ∧ (va_AO "java/lang/Object" U ∧ va_AO "SearchKeeper$Entry" U) ∧ (∀ t ∈ g_faces, va_Fw t.1 t.2.1 t.2.2 U) ∧
  (va_Z "java/util/ArrayList" "DEFAULTCAPACITY_EMPTY_ELEMENTDATA" "[Ljava/lang/Object;" (.ref (Γ.2.2.2 0)) (gA Γ) U Γ.2.2.1 ∧ va_Z "java/util/BitSet" "$assertionsDisabled" "Z" (.int 1) (gA Γ) U Γ.2.2.1 ∧
   va_Z "SearchKeeper$Notice" "CAME" "LSearchKeeper$Notice;" (.ref (Γ.2.2.2 1)) (gA Γ) U Γ.2.2.1 ∧ va_Z "SearchKeeper$Notice" "WRITTEN" "LSearchKeeper$Notice;" (.ref (Γ.2.2.2 2)) (gA Γ) U Γ.2.2.1 ∧ va_Z "SearchKeeper$Notice" "GONE" "LSearchKeeper$Notice;" (.ref (Γ.2.2.2 3)) (gA Γ) U Γ.2.2.1) ∧
  (vx_Zq Bundle.tN "UNASSIGNED_STACK" Bundle.steD (gA Γ) U Γ.2.2.1 ∧ vx_Zq Bundle.tN "SUPPRESSED_SENTINEL" Bundle.listD (gA Γ) U Γ.2.2.1) ∧
  va_Mi "[Ljava/lang/Object;" (Γ.2.2.2 4) U ∧
  (va_Z "java/lang/Integer$IntegerCache" "high" "I" (.int 127) (gA Γ) U Γ.2.2.1 ∧ va_Z "java/lang/Integer$IntegerCache" "cache" "[Ljava/lang/Integer;" (.ref (Γ.2.2.2 5)) (gA Γ) U Γ.2.2.1 ∧ va_T (.object "java/lang/Integer") (Γ.2.2.2 5) 256 (fun k => .ref (Γ.2.2.2 (100 + k))) (gA Γ) U Γ.2.2.1) ∧
  (va_Nc "java/lang/IllegalArgumentException" "java/lang/IndexOutOfBoundsException" U ∧ va_Nc "java/lang/IllegalStateException" "java/lang/IndexOutOfBoundsException" U ∧ va_Nc "java/lang/IllegalStateException" "java/lang/IllegalArgumentException" U)
theorem gNw_warm {s U : State} {w : Cond} (hg : g_keep w = true) (hW : s.WarmedH U.vm) (h : va_Nw w s) : va_Nw w U := by
  cases w with
  | fieldLinkNest a i b n d h2 => exact va_Nw.warmF hW h
  | methodLinkNest a i x h2 => exact va_Nw.warmM hW h
  | castable C T => exact va_Nw.warmC hW h
  | declares x => exact va_Nw.warmD hW h
  | _ => cases hg
theorem KK_warm {Γ : GG} {s U : State} (hW : s.WarmedH U.vm) (h : KK Γ s) : KK Γ U := by
  obtain ⟨h1, h2, ⟨h3, h4⟩, h5, ⟨h6, h7, h8, h9, h10⟩, ⟨h11, h12⟩, h13, ⟨h14, h15, h155⟩, h16, h17, h18⟩ := h
  have hA := hW.alike
  exact ⟨va_K.moved hA h1, fun w hw hk => gNw_warm hk hW (h2 w hw hk), ⟨va_AO.moved hA h3, va_AO.moved hA h4⟩, fun t ht => va_Fw.moved (g_faces_ok t ht) hA (h5 t ht), ⟨va_Z.moved hA h6, va_Z.moved hA h7, va_Z.moved hA h8, va_Z.moved hA h9, va_Z.moved hA h10⟩, ⟨vx_Zq.moved hA h11, vx_Zq.moved hA h12⟩, va_Mi.moved hA h13, ⟨va_Z.moved hA h14, va_Z.moved hA h15, va_T.moved hA h155⟩, va_Nc.moved hA h16, va_Nc.moved hA h17, va_Nc.moved hA h18⟩
def GC0 (K : KT) (own : String) (cc : ByteArray) (nL rk : Nat) (tb : List ExceptionTableEntry) : Prop :=
  (kp K).tables.exec = Jvm.exec ∧ (kc K).code = cc ∧ (kc K).maxLocals = nL ∧ (ks K).vm.findClass own = some (km K).cls ∧ (∀ w ∈ lw_all, w.before (ka K) (ks K) = true) ∧ KK (kΓ K) (ks K) ∧ (kme K).locks = false ∧ HIx (kΓ K) (kHI K) ∧
  (kR K).frames = rk ∧ (kR K).locals = 40 * rk ∧ (kS1 K).2.1 ≤ (kS0 K).2.1 + (kR K).cells ∧ (kS1 K).2.2.1 ≤ (kS0 K).2.2.1 + (kR K).slots ∧ (kl K).stackTraces = false ∧ kHI K (kS0 K) (ks K).heap ∧ (kc K).exceptionTable.toList = tb
section GCP
variable {K : KT} {own : String} {cc : ByteArray} {nL rk : Nat} {tb : List ExceptionTableEntry}
theorem GC0.hx (C : GC0 K own cc nL rk tb) : (kp K).tables.exec = Jvm.exec := C.1
theorem GC0.hb (C : GC0 K own cc nL rk tb) : (kc K).code = cc := C.2.1
theorem GC0.hml (C : GC0 K own cc nL rk tb) : (kc K).maxLocals = nL := C.2.2.1
theorem GC0.hown (C : GC0 K own cc nL rk tb) : (ks K).vm.findClass own = some (km K).cls := C.2.2.2.1
theorem GC0.hts (C : GC0 K own cc nL rk tb) : ∀ w ∈ lw_all, w.before (ka K) (ks K) = true := C.2.2.2.2.1
theorem GC0.hk (C : GC0 K own cc nL rk tb) : KK (kΓ K) (ks K) := C.2.2.2.2.2.1
theorem GC0.locks (C : GC0 K own cc nL rk tb) : (kme K).locks = false := C.2.2.2.2.2.2.1
theorem GC0.hi (C : GC0 K own cc nL rk tb) : HIx (kΓ K) (kHI K) := C.2.2.2.2.2.2.2.1
theorem GC0.fr (C : GC0 K own cc nL rk tb) : (kR K).frames = rk := C.2.2.2.2.2.2.2.2.1
theorem GC0.lo (C : GC0 K own cc nL rk tb) : (kR K).locals = 40 * rk := C.2.2.2.2.2.2.2.2.2.1
theorem GC0.rc (C : GC0 K own cc nL rk tb) : (kS1 K).2.1 ≤ (kS0 K).2.1 + (kR K).cells := C.2.2.2.2.2.2.2.2.2.2.1
theorem GC0.rs (C : GC0 K own cc nL rk tb) : (kS1 K).2.2.1 ≤ (kS0 K).2.2.1 + (kR K).slots := C.2.2.2.2.2.2.2.2.2.2.2.1
theorem GC0.ntr (C : GC0 K own cc nL rk tb) : (kl K).stackTraces = false := C.2.2.2.2.2.2.2.2.2.2.2.2.1
theorem GC0.h0 (C : GC0 K own cc nL rk tb) : kHI K (kS0 K) (ks K).heap := C.2.2.2.2.2.2.2.2.2.2.2.2.2.1
theorem GC0.tab (C : GC0 K own cc nL rk tb) : (kc K).exceptionTable.toList = tb := C.2.2.2.2.2.2.2.2.2.2.2.2.2.2
theorem GC0.kk (C : GC0 K own cc nL rk tb) : va_K (kΓ K).1 g_cl (g_tys (kΓ K)) (ks K) := C.hk.1
theorem GC0.nw (C : GC0 K own cc nL rk tb) {w : Cond} (hw : w ∈ lw_tbl) (hg : g_keep w = true) : va_Nw w (ks K) := C.hk.2.1 w hw hg
theorem GC0.old (C : GC0 K own cc nL rk tb) : gb0 (kΓ K) ≤ (ks K).heap.size ∧ ∀ a : Nat, a < gb0 (kΓ K) → (ks K).heap[a]? = (kΓ K).2.2.1[a]? := C.hi.2.2.2.2.2.2.1 _ _ C.h0
end GCP
def GC (K : KT) (own : String) (cc : ByteArray) (nL rk : Nat) (tb : List ExceptionTableEntry) : Prop := kLv K → GC0 K own cc nL rk tb
abbrev tvp (q : Nat × TV) : Nat × Value := (q.1, tv q.2)
/-- the judgement: from pc, with locals L and stack st, over any heap that holds S, the machine comes to its end; and the cells and slots of S are no more than those of the end -/
def G (K : KT) (nL : Nat) (S : St) (pc : Nat) (L : List (Nat × TV)) (st : List TV) : Prop :=
  (S.2.1 ≤ (kS1 K).2.1 ∧ S.2.2.1 ≤ (kS1 K).2.2.1) ∧ (kLv K → ∀ (H : Heap) (locs : List Loc) (cells slots : Nat) (ls : Array Slot), kHI K S H → (∀ z ∈ locs, gb0 (kΓ K) ≤ z.base) → cells + (kS0 K).2.1 = S.2.1 → slots + (kS0 K).2.2.1 = S.2.2.1 → lv_has ls nL (L.map tvp) →
    W (kp K) (kl K) (ke K) (kR K) (ks K) (km K) (ka K) (kb K) (kme K) (kc K) H locs cells slots (kQ K) (F0 (km K) pc ls (st.map tv)))
def gl_set (L : List (Nat × TV)) (i : Nat) (v : TV) : List (Nat × TV) := (i, v) :: L.filter (fun q => !(q.1 == i) && (!(q.1 + 1 == i) || gcat1 q.2))
def gl_set2 (L : List (Nat × TV)) (i : Nat) (v : TV) : List (Nat × TV) := (i, v) :: L.filter (fun q => !(q.1 == i) && (!(q.1 == i + 1) && (!(q.1 + 1 == i) || gcat1 q.2)))
theorem gl_has {ls : Array Slot} {nL : Nat} {l : List (Nat × Value)} {L : List (Nat × TV)} (h : lv_has ls nL l) (hs : ∀ q ∈ L, tvp q ∈ l) : lv_has ls nL (L.map tvp) := by
  refine ⟨h.1, h.2.1, fun q hq => ?_⟩
  obtain ⟨z, hz, rfl⟩ := List.mem_map.mp hq
  exact h.2.2 _ (hs z hz)
theorem gl_sub1 {L : List (Nat × TV)} {i : Nat} {v : TV} : ∀ q ∈ gl_set L i v, tvp q ∈ (i, tv v) :: (L.map tvp).filter (fun q => !(q.1 == i) && !(q.1 + 1 == i && q.2.category == 2)) := by
  intro q hq
  rcases List.mem_cons.mp hq with rfl | hq
  · exact List.mem_cons_self
  · obtain ⟨h1, h2⟩ := List.mem_filter.mp hq
    refine List.mem_cons_of_mem _ (List.mem_filter.mpr ⟨List.mem_map.mpr ⟨q, h1, rfl⟩, ?_⟩)
    simp only [Bool.and_eq_true, Bool.or_eq_true, Bool.not_eq_true'] at h2 ⊢
    refine ⟨h2.1, ?_⟩
    rcases h2.2 with h | h
    · show (q.1 + 1 == i && _) = false
      rw [h]; rfl
    · show (_ && (tv q.2).category == 2) = false
      rw [gcat1_cat _ h]
      simp
theorem gl_sub2 {L : List (Nat × TV)} {i : Nat} {v : TV} : ∀ q ∈ gl_set2 L i v, tvp q ∈ (i, tv v) :: (L.map tvp).filter (fun q => !(q.1 == i) && (!(q.1 == i + 1) && !(q.1 + 1 == i && q.2.category == 2))) := by
  intro q hq
  rcases List.mem_cons.mp hq with rfl | hq
  · exact List.mem_cons_self
  · obtain ⟨h1, h2⟩ := List.mem_filter.mp hq
    refine List.mem_cons_of_mem _ (List.mem_filter.mpr ⟨List.mem_map.mpr ⟨q, h1, rfl⟩, ?_⟩)
    simp only [Bool.and_eq_true, Bool.or_eq_true, Bool.not_eq_true'] at h2 ⊢
    refine ⟨h2.1, h2.2.1, ?_⟩
    rcases h2.2.2 with h | h
    · show (q.1 + 1 == i && _) = false
      rw [h]; rfl
    · show (_ && (tv q.2).category == 2) = false
      rw [gcat1_cat _ h]
      simp
theorem gl_at {ls : Array Slot} {nL : Nat} {L : List (Nat × TV)} (h : lv_has ls nL (L.map tvp)) (k : Nat) {i : Nat} {v : TV} (hk : L[k]? = some (i, v)) : ls[i]? = some (.val (tv v)) := h.2.2 (tvp (i, v)) (List.mem_map.mpr ⟨(i, v), List.mem_of_getElem? hk, rfl⟩)
section GR
variable {K : KT} {own : String} {cc : ByteArray} {nL rk : Nat} {tb : List ExceptionTableEntry} {S : St} {pc : Nat} {L : List (Nat × TV)} {st : List TV}
/-- fewer locals, by their places -/
theorem g_sub (ks : List Nat) {L' : List (Nat × TV)} (hL : ks.filterMap (fun k => L[k]?) = L') (k : G K nL S pc L' st) : G K nL S pc L st := by
  refine ⟨k.1, fun lv H locs cells slots ls h1 h2 h3 h4 h5 => k.2 lv H locs cells slots ls h1 h2 h3 h4 (gl_has h5 fun q hq => ?_)⟩
  subst hL
  obtain ⟨i, -, hi⟩ := List.mem_filterMap.mp hq
  exact List.mem_map.mpr ⟨q, List.mem_of_getElem? hi, rfl⟩

theorem g_iconst (C : GC K own cc nL rk tb) {n : Int} {v : Int32} (d : decode cc pc = .ok (.iconst n, 1)) (hv : Int32.ofInt n = v) (k : G K nL S (pc + 1) L (vI v :: st)) : G K nL S pc L st := ⟨k.1, fun lv H locs cells slots ls h1 h2 h3 h4 h5 => have C := C lv;  lv_iconst C.hx C.hb d hv (k.2 lv H locs cells slots ls h1 h2 h3 h4 h5)⟩
theorem g_bipush (C : GC K own cc nL rk tb) {n : Int} {v : Int32} (d : decode cc pc = .ok (.bipush n, 2)) (hv : (Int8.ofInt n).toInt32 = v) (k : G K nL S (pc + 2) L (vI v :: st)) : G K nL S pc L st := ⟨k.1, fun lv H locs cells slots ls h1 h2 h3 h4 h5 => have C := C lv;  lv_bipush C.hx C.hb d hv (k.2 lv H locs cells slots ls h1 h2 h3 h4 h5)⟩
theorem g_sipush (C : GC K own cc nL rk tb) {n : Int} {v : Int32} (d : decode cc pc = .ok (.sipush n, 3)) (hv : (Int16.ofInt n).toInt32 = v) (k : G K nL S (pc + 3) L (vI v :: st)) : G K nL S pc L st := ⟨k.1, fun lv H locs cells slots ls h1 h2 h3 h4 h5 => have C := C lv;  lv_sipush C.hx C.hb d hv (k.2 lv H locs cells slots ls h1 h2 h3 h4 h5)⟩
theorem g_lconst (C : GC K own cc nL rk tb) {n : Fin 2} {v : Int64} (d : decode cc pc = .ok (.lconst n, 1)) (hv : Int64.ofNat (n : Nat) = v) (k : G K nL S (pc + 1) L (vL v :: st)) : G K nL S pc L st := ⟨k.1, fun lv H locs cells slots ls h1 h2 h3 h4 h5 => have C := C lv;  lv_lconst C.hx C.hb d hv (k.2 lv H locs cells slots ls h1 h2 h3 h4 h5)⟩
theorem g_null (C : GC K own cc nL rk tb) (d : decode cc pc = .ok (.aconst_null, 1)) (k : G K nL S (pc + 1) L (vR none :: st)) : G K nL S pc L st := ⟨k.1, fun lv H locs cells slots ls h1 h2 h3 h4 h5 => have C := C lv;  lv_null C.hx C.hb d (k.2 lv H locs cells slots ls h1 h2 h3 h4 h5)⟩
theorem g_ldc (C : GC K own cc nL rk tb) {index : Nat} {v : Int32} (hw : Cond.constant own index v ∈ lw_all) (d : decode cc pc = .ok (.ldc index, 2)) (k : G K nL S (pc + 2) L (vI v :: st)) : G K nL S pc L st := ⟨k.1, fun lv H locs cells slots ls h1 h2 h3 h4 h5 => have C := C lv;  lv_ldc C.hx C.hb C.hown (C.hts _ hw) d (k.2 lv H locs cells slots ls h1 h2 h3 h4 h5)⟩
theorem g_ldcw (C : GC K own cc nL rk tb) {index : Nat} {v : Int32} (hw : Cond.constant own index v ∈ lw_all) (d : decode cc pc = .ok (.ldc_w index, 3)) (k : G K nL S (pc + 3) L (vI v :: st)) : G K nL S pc L st := ⟨k.1, fun lv H locs cells slots ls h1 h2 h3 h4 h5 => have C := C lv;  lv_ldcw C.hx C.hb C.hown (C.hts _ hw) d (k.2 lv H locs cells slots ls h1 h2 h3 h4 h5)⟩
theorem g_ldc2 (C : GC K own cc nL rk tb) {index : Nat} {v : Int64} (hw : Cond.constantLong own index v ∈ lw_all) (d : decode cc pc = .ok (.ldc2_w index, 3)) (k : G K nL S (pc + 3) L (vL v :: st)) : G K nL S pc L st := ⟨k.1, fun lv H locs cells slots ls h1 h2 h3 h4 h5 => have C := C lv;  lv_ldc2 C.hx C.hb C.hown (C.hts _ hw) d (k.2 lv H locs cells slots ls h1 h2 h3 h4 h5)⟩
theorem g_iload_n (C : GC K own cc nL rk tb) {kk : Fin 4} {i : Nat} {x : Int32} (d : decode cc pc = .ok (.iload_n kk, 1)) (hi : (kk : Nat) = i) (w : Nat) (hl : L[w]? = some (i, vI x)) (k : G K nL S (pc + 1) L (vI x :: st)) : G K nL S pc L st := ⟨k.1, fun lv H locs cells slots ls h1 h2 h3 h4 h5 => have C := C lv;  lv_iload_n C.hx C.hb d hi (gl_at h5 w hl) (k.2 lv H locs cells slots ls h1 h2 h3 h4 h5)⟩
theorem g_iload (C : GC K own cc nL rk tb) {i : Nat} {x : Int32} (d : decode cc pc = .ok (.iload i, 2)) (w : Nat) (hl : L[w]? = some (i, vI x)) (k : G K nL S (pc + 2) L (vI x :: st)) : G K nL S pc L st := ⟨k.1, fun lv H locs cells slots ls h1 h2 h3 h4 h5 => have C := C lv;  lv_iload C.hx C.hb d (gl_at h5 w hl) (k.2 lv H locs cells slots ls h1 h2 h3 h4 h5)⟩
theorem g_lload_n (C : GC K own cc nL rk tb) {kk : Fin 4} {i : Nat} {x : Int64} (d : decode cc pc = .ok (.lload_n kk, 1)) (hi : (kk : Nat) = i) (w : Nat) (hl : L[w]? = some (i, vL x)) (k : G K nL S (pc + 1) L (vL x :: st)) : G K nL S pc L st := ⟨k.1, fun lv H locs cells slots ls h1 h2 h3 h4 h5 => have C := C lv;  lv_lload_n C.hx C.hb d hi (gl_at h5 w hl) (k.2 lv H locs cells slots ls h1 h2 h3 h4 h5)⟩
theorem g_lload (C : GC K own cc nL rk tb) {i : Nat} {x : Int64} (d : decode cc pc = .ok (.lload i, 2)) (w : Nat) (hl : L[w]? = some (i, vL x)) (k : G K nL S (pc + 2) L (vL x :: st)) : G K nL S pc L st := ⟨k.1, fun lv H locs cells slots ls h1 h2 h3 h4 h5 => have C := C lv;  lv_lload C.hx C.hb d (gl_at h5 w hl) (k.2 lv H locs cells slots ls h1 h2 h3 h4 h5)⟩
theorem g_aload_n (C : GC K own cc nL rk tb) {kk : Fin 4} {i : Nat} {x : Option Nat} (d : decode cc pc = .ok (.aload_n kk, 1)) (hi : (kk : Nat) = i) (w : Nat) (hl : L[w]? = some (i, vR x)) (k : G K nL S (pc + 1) L (vR x :: st)) : G K nL S pc L st := ⟨k.1, fun lv H locs cells slots ls h1 h2 h3 h4 h5 => by
  have C := C lv
  have h := k.2 lv H locs cells slots ls h1 h2 h3 h4 h5
  have h6 := gl_at h5 w hl
  cases x with
  | none => exact lv_aload_nN C.hx C.hb d hi h6 h
  | some x => exact lv_aload_n C.hx C.hb d hi h6 h⟩
theorem g_aload (C : GC K own cc nL rk tb) {i : Nat} {x : Option Nat} (d : decode cc pc = .ok (.aload i, 2)) (w : Nat) (hl : L[w]? = some (i, vR x)) (k : G K nL S (pc + 2) L (vR x :: st)) : G K nL S pc L st := ⟨k.1, fun lv H locs cells slots ls h1 h2 h3 h4 h5 => by
  have C := C lv
  have h := k.2 lv H locs cells slots ls h1 h2 h3 h4 h5
  have h6 := gl_at h5 w hl
  cases x with
  | none => exact lv_aloadN C.hx C.hb d h6 h
  | some x => exact lv_aload C.hx C.hb d h6 h⟩
theorem g_istore_n (C : GC K own cc nL rk tb) {kk : Fin 4} {i : Nat} {x : Int32} {L' : List (Nat × TV)} (d : decode cc pc = .ok (.istore_n kk, 1)) (hi : (kk : Nat) = i) (hn : i < nL) (hL : gl_set L i (vI x) = L') (k : G K nL S (pc + 1) L' st) : G K nL S pc L (vI x :: st) := ⟨k.1, fun lv H locs cells slots ls h1 h2 h3 h4 h5 => have C := C lv;  lv_istore_n C.hx C.hb d hi h5 hn rfl fun ls' h6 => k.2 lv H locs cells slots ls' h1 h2 h3 h4 (gl_has h6 (by subst hL; exact gl_sub1))⟩
theorem g_istore (C : GC K own cc nL rk tb) {i : Nat} {x : Int32} {L' : List (Nat × TV)} (d : decode cc pc = .ok (.istore i, 2)) (hn : i < nL) (hL : gl_set L i (vI x) = L') (k : G K nL S (pc + 2) L' st) : G K nL S pc L (vI x :: st) := ⟨k.1, fun lv H locs cells slots ls h1 h2 h3 h4 h5 => have C := C lv;  lv_istore C.hx C.hb d h5 hn rfl fun ls' h6 => k.2 lv H locs cells slots ls' h1 h2 h3 h4 (gl_has h6 (by subst hL; exact gl_sub1))⟩
theorem g_lstore_n (C : GC K own cc nL rk tb) {kk : Fin 4} {i : Nat} {x : Int64} {L' : List (Nat × TV)} (d : decode cc pc = .ok (.lstore_n kk, 1)) (hi : (kk : Nat) = i) (hn : i + 1 < nL) (hL : gl_set2 L i (vL x) = L') (k : G K nL S (pc + 1) L' st) : G K nL S pc L (vL x :: st) := ⟨k.1, fun lv H locs cells slots ls h1 h2 h3 h4 h5 => have C := C lv;  lv_lstore_n C.hx C.hb d hi h5 hn rfl fun ls' h6 => k.2 lv H locs cells slots ls' h1 h2 h3 h4 (gl_has h6 (by subst hL; exact gl_sub2))⟩
theorem g_lstore (C : GC K own cc nL rk tb) {i : Nat} {x : Int64} {L' : List (Nat × TV)} (d : decode cc pc = .ok (.lstore i, 2)) (hn : i + 1 < nL) (hL : gl_set2 L i (vL x) = L') (k : G K nL S (pc + 2) L' st) : G K nL S pc L (vL x :: st) := ⟨k.1, fun lv H locs cells slots ls h1 h2 h3 h4 h5 => have C := C lv;  lv_lstore C.hx C.hb d h5 hn rfl fun ls' h6 => k.2 lv H locs cells slots ls' h1 h2 h3 h4 (gl_has h6 (by subst hL; exact gl_sub2))⟩
theorem g_astore_n (C : GC K own cc nL rk tb) {kk : Fin 4} {i : Nat} {x : Option Nat} {L' : List (Nat × TV)} (d : decode cc pc = .ok (.astore_n kk, 1)) (hi : (kk : Nat) = i) (hn : i < nL) (hL : gl_set L i (vR x) = L') (k : G K nL S (pc + 1) L' st) : G K nL S pc L (vR x :: st) := ⟨k.1, fun lv H locs cells slots ls h1 h2 h3 h4 h5 => by
  have C := C lv
  subst hL
  cases x with
  | none => exact lv_astore_nN C.hx C.hb d hi h5 hn rfl fun ls' h6 => k.2 lv H locs cells slots ls' h1 h2 h3 h4 (gl_has h6 gl_sub1)
  | some x => exact lv_astore_n C.hx C.hb d hi h5 hn rfl fun ls' h6 => k.2 lv H locs cells slots ls' h1 h2 h3 h4 (gl_has h6 gl_sub1)⟩
theorem g_astore (C : GC K own cc nL rk tb) {i : Nat} {x : Option Nat} {L' : List (Nat × TV)} (d : decode cc pc = .ok (.astore i, 2)) (hn : i < nL) (hL : gl_set L i (vR x) = L') (k : G K nL S (pc + 2) L' st) : G K nL S pc L (vR x :: st) := ⟨k.1, fun lv H locs cells slots ls h1 h2 h3 h4 h5 => by
  have C := C lv
  subst hL
  cases x with
  | none => exact lv_astoreN C.hx C.hb d h5 hn rfl fun ls' h6 => k.2 lv H locs cells slots ls' h1 h2 h3 h4 (gl_has h6 gl_sub1)
  | some x => exact lv_astore C.hx C.hb d h5 hn rfl fun ls' h6 => k.2 lv H locs cells slots ls' h1 h2 h3 h4 (gl_has h6 gl_sub1)⟩
theorem g_iinc (C : GC K own cc nL rk tb) {i : Nat} {n : Int} {x v : Int32} {L' : List (Nat × TV)} (d : decode cc pc = .ok (.iinc i n, 3)) (w : Nat) (hl : L[w]? = some (i, vI x)) (hv : x + Int32.ofInt n = v) (hn : i < nL) (hL : gl_set L i (vI v) = L') (k : G K nL S (pc + 3) L' st) : G K nL S pc L st := ⟨k.1, fun lv H locs cells slots ls h1 h2 h3 h4 h5 => have C := C lv;  lv_iinc (k := w) C.hx C.hb d h5 (by rw [List.getElem?_map, hl]; rfl) hv hn rfl fun ls' h6 => k.2 lv H locs cells slots ls' h1 h2 h3 h4 (gl_has h6 (by subst hL; exact gl_sub1))⟩
theorem g_iadd (C : GC K own cc nL rk tb) {x y : Int32} (d : decode cc pc = .ok (.iadd, 1)) (k : G K nL S (pc + 1) L (vI (x + y) :: st)) : G K nL S pc L (vI y :: vI x :: st) := ⟨k.1, fun lv H locs cells slots ls h1 h2 h3 h4 h5 => have C := C lv;  lv_iadd C.hx C.hb d (k.2 lv H locs cells slots ls h1 h2 h3 h4 h5)⟩
theorem g_isub (C : GC K own cc nL rk tb) {x y : Int32} (d : decode cc pc = .ok (.isub, 1)) (k : G K nL S (pc + 1) L (vI (x - y) :: st)) : G K nL S pc L (vI y :: vI x :: st) := ⟨k.1, fun lv H locs cells slots ls h1 h2 h3 h4 h5 => have C := C lv;  lv_isub C.hx C.hb d (k.2 lv H locs cells slots ls h1 h2 h3 h4 h5)⟩
theorem g_imul (C : GC K own cc nL rk tb) {x y : Int32} (d : decode cc pc = .ok (.imul, 1)) (k : G K nL S (pc + 1) L (vI (x * y) :: st)) : G K nL S pc L (vI y :: vI x :: st) := ⟨k.1, fun lv H locs cells slots ls h1 h2 h3 h4 h5 => have C := C lv;  lv_imul C.hx C.hb d (k.2 lv H locs cells slots ls h1 h2 h3 h4 h5)⟩
theorem g_iand (C : GC K own cc nL rk tb) {x y : Int32} (d : decode cc pc = .ok (.iand, 1)) (k : G K nL S (pc + 1) L (vI (x &&& y) :: st)) : G K nL S pc L (vI y :: vI x :: st) := ⟨k.1, fun lv H locs cells slots ls h1 h2 h3 h4 h5 => have C := C lv;  lv_iand C.hx C.hb d (k.2 lv H locs cells slots ls h1 h2 h3 h4 h5)⟩
theorem g_ior (C : GC K own cc nL rk tb) {x y : Int32} (d : decode cc pc = .ok (.ior, 1)) (k : G K nL S (pc + 1) L (vI (x ||| y) :: st)) : G K nL S pc L (vI y :: vI x :: st) := ⟨k.1, fun lv H locs cells slots ls h1 h2 h3 h4 h5 => have C := C lv;  lv_ior C.hx C.hb d (k.2 lv H locs cells slots ls h1 h2 h3 h4 h5)⟩
theorem g_ixor (C : GC K own cc nL rk tb) {x y : Int32} (d : decode cc pc = .ok (.ixor, 1)) (k : G K nL S (pc + 1) L (vI (x ^^^ y) :: st)) : G K nL S pc L (vI y :: vI x :: st) := ⟨k.1, fun lv H locs cells slots ls h1 h2 h3 h4 h5 => have C := C lv;  lv_ixor C.hx C.hb d (k.2 lv H locs cells slots ls h1 h2 h3 h4 h5)⟩
theorem g_ladd (C : GC K own cc nL rk tb) {x y : Int64} (d : decode cc pc = .ok (.ladd, 1)) (k : G K nL S (pc + 1) L (vL (x + y) :: st)) : G K nL S pc L (vL y :: vL x :: st) := ⟨k.1, fun lv H locs cells slots ls h1 h2 h3 h4 h5 => have C := C lv;  lv_ladd C.hx C.hb d (k.2 lv H locs cells slots ls h1 h2 h3 h4 h5)⟩
theorem g_lsub (C : GC K own cc nL rk tb) {x y : Int64} (d : decode cc pc = .ok (.lsub, 1)) (k : G K nL S (pc + 1) L (vL (x - y) :: st)) : G K nL S pc L (vL y :: vL x :: st) := ⟨k.1, fun lv H locs cells slots ls h1 h2 h3 h4 h5 => have C := C lv;  lv_lsub C.hx C.hb d (k.2 lv H locs cells slots ls h1 h2 h3 h4 h5)⟩
theorem g_land (C : GC K own cc nL rk tb) {x y : Int64} (d : decode cc pc = .ok (.land, 1)) (k : G K nL S (pc + 1) L (vL (x &&& y) :: st)) : G K nL S pc L (vL y :: vL x :: st) := ⟨k.1, fun lv H locs cells slots ls h1 h2 h3 h4 h5 => have C := C lv;  lv_land C.hx C.hb d (k.2 lv H locs cells slots ls h1 h2 h3 h4 h5)⟩
theorem g_lor (C : GC K own cc nL rk tb) {x y : Int64} (d : decode cc pc = .ok (.lor, 1)) (k : G K nL S (pc + 1) L (vL (x ||| y) :: st)) : G K nL S pc L (vL y :: vL x :: st) := ⟨k.1, fun lv H locs cells slots ls h1 h2 h3 h4 h5 => have C := C lv;  lv_lor C.hx C.hb d (k.2 lv H locs cells slots ls h1 h2 h3 h4 h5)⟩
theorem g_ishl (C : GC K own cc nL rk tb) {x y : Int32} (d : decode cc pc = .ok (.ishl, 1)) (k : G K nL S (pc + 1) L (vI (x <<< (y &&& 31)) :: st)) : G K nL S pc L (vI y :: vI x :: st) := ⟨k.1, fun lv H locs cells slots ls h1 h2 h3 h4 h5 => have C := C lv;  lv_ishl C.hx C.hb d (k.2 lv H locs cells slots ls h1 h2 h3 h4 h5)⟩
theorem g_ishr (C : GC K own cc nL rk tb) {x y : Int32} (d : decode cc pc = .ok (.ishr, 1)) (k : G K nL S (pc + 1) L (vI (x >>> (y &&& 31)) :: st)) : G K nL S pc L (vI y :: vI x :: st) := ⟨k.1, fun lv H locs cells slots ls h1 h2 h3 h4 h5 => have C := C lv;  lv_ishr C.hx C.hb d (k.2 lv H locs cells slots ls h1 h2 h3 h4 h5)⟩
theorem g_lshl (C : GC K own cc nL rk tb) {x : Int64} {y : Int32} (d : decode cc pc = .ok (.lshl, 1)) (k : G K nL S (pc + 1) L (vL (x <<< (y.toInt64 &&& 63)) :: st)) : G K nL S pc L (vI y :: vL x :: st) := ⟨k.1, fun lv H locs cells slots ls h1 h2 h3 h4 h5 => have C := C lv;  lv_lshl C.hx C.hb d rfl (k.2 lv H locs cells slots ls h1 h2 h3 h4 h5)⟩
theorem g_lushr (C : GC K own cc nL rk tb) {x : Int64} {y : Int32} (d : decode cc pc = .ok (.lushr, 1)) (k : G K nL S (pc + 1) L (vL ((x.toUInt64 >>> (y.toInt64.toUInt64 &&& Int64.toUInt64 63)).toInt64) :: st)) : G K nL S pc L (vI y :: vL x :: st) := ⟨k.1, fun lv H locs cells slots ls h1 h2 h3 h4 h5 => have C := C lv;  lv_lushr C.hx C.hb d rfl (k.2 lv H locs cells slots ls h1 h2 h3 h4 h5)⟩
theorem g_iushr (C : GC K own cc nL rk tb) {x y : Int32} (d : decode cc pc = .ok (.iushr, 1)) (k : G K nL S (pc + 1) L (vI ((x.toUInt32 >>> (y.toUInt32 &&& Int32.toUInt32 31)).toInt32) :: st)) : G K nL S pc L (vI y :: vI x :: st) := ⟨k.1, fun lv H locs cells slots ls h1 h2 h3 h4 h5 => have C := C lv;  lv_iushr C.hx C.hb d rfl (k.2 lv H locs cells slots ls h1 h2 h3 h4 h5)⟩
theorem g_ineg (C : GC K own cc nL rk tb) {x : Int32} (d : decode cc pc = .ok (.ineg, 1)) (k : G K nL S (pc + 1) L (vI (-x) :: st)) : G K nL S pc L (vI x :: st) := ⟨k.1, fun lv H locs cells slots ls h1 h2 h3 h4 h5 => have C := C lv;  lv_ineg C.hx C.hb d (k.2 lv H locs cells slots ls h1 h2 h3 h4 h5)⟩
theorem g_i2l (C : GC K own cc nL rk tb) {x : Int32} (d : decode cc pc = .ok (.i2l, 1)) (k : G K nL S (pc + 1) L (vL x.toInt64 :: st)) : G K nL S pc L (vI x :: st) := ⟨k.1, fun lv H locs cells slots ls h1 h2 h3 h4 h5 => have C := C lv;  lv_i2l C.hx C.hb d rfl (k.2 lv H locs cells slots ls h1 h2 h3 h4 h5)⟩
theorem g_l2i (C : GC K own cc nL rk tb) {x : Int64} (d : decode cc pc = .ok (.l2i, 1)) (k : G K nL S (pc + 1) L (vI x.toInt32 :: st)) : G K nL S pc L (vL x :: st) := ⟨k.1, fun lv H locs cells slots ls h1 h2 h3 h4 h5 => have C := C lv;  lv_l2i C.hx C.hb d rfl (k.2 lv H locs cells slots ls h1 h2 h3 h4 h5)⟩
theorem g_i2c (C : GC K own cc nL rk tb) {x : Int32} (d : decode cc pc = .ok (.i2c, 1)) (k : G K nL S (pc + 1) L (vI ((x.toUInt32 % 65536).toInt32) :: st)) : G K nL S pc L (vI x :: st) := ⟨k.1, fun lv H locs cells slots ls h1 h2 h3 h4 h5 => have C := C lv;  lv_i2c C.hx C.hb d rfl (k.2 lv H locs cells slots ls h1 h2 h3 h4 h5)⟩
theorem g_idiv (C : GC K own cc nL rk tb) {x y : Int32} {α : Type} {A : Option α} {z : α} (d : decode cc pc = .ok (.idiv, 1)) (hd : (if y = 0 then none else A) = some z) (k : A = some z → G K nL S (pc + 1) L (vI (x / y) :: st)) : G K nL S pc L (vI y :: vI x :: st) := by
  by_cases h : y = 0
  · rw [if_pos h] at hd; cases hd
  · rw [if_neg h] at hd
    have k := k hd
    exact ⟨k.1, fun lv H locs cells slots ls h1 h2 h3 h4 h5 => have C := C lv;  lv_idiv C.hx C.hb d h (k.2 lv H locs cells slots ls h1 h2 h3 h4 h5)⟩
theorem g_irem (C : GC K own cc nL rk tb) {x y : Int32} {α : Type} {A : Option α} {z : α} (d : decode cc pc = .ok (.irem, 1)) (hd : (if y = 0 then none else A) = some z) (k : A = some z → G K nL S (pc + 1) L (vI (x - x / y * y) :: st)) : G K nL S pc L (vI y :: vI x :: st) := by
  by_cases h : y = 0
  · rw [if_pos h] at hd; cases hd
  · rw [if_neg h] at hd
    have k := k hd
    exact ⟨k.1, fun lv H locs cells slots ls h1 h2 h3 h4 h5 => have C := C lv;  lv_irem C.hx C.hb d h (k.2 lv H locs cells slots ls h1 h2 h3 h4 h5)⟩
theorem g_dup (C : GC K own cc nL rk tb) {v : TV} (d : decode cc pc = .ok (.dup, 1)) (hv : gcat1 v = true) (k : G K nL S (pc + 1) L (v :: v :: st)) : G K nL S pc L (v :: st) := ⟨k.1, fun lv H locs cells slots ls h1 h2 h3 h4 h5 => have C := C lv;  lv_dup C.hx C.hb d (gcat1_cat v hv) (k.2 lv H locs cells slots ls h1 h2 h3 h4 h5)⟩
theorem g_pop (C : GC K own cc nL rk tb) {v : TV} (d : decode cc pc = .ok (.pop, 1)) (hv : gcat1 v = true) (k : G K nL S (pc + 1) L st) : G K nL S pc L (v :: st) := ⟨k.1, fun lv H locs cells slots ls h1 h2 h3 h4 h5 => have C := C lv;  lv_pop C.hx C.hb d (gcat1_cat v hv) (k.2 lv H locs cells slots ls h1 h2 h3 h4 h5)⟩
theorem g_dup_x1 (C : GC K own cc nL rk tb) {v w : TV} (d : decode cc pc = .ok (.dup_x1, 1)) (hv : gcat1 v = true) (hw : gcat1 w = true) (k : G K nL S (pc + 1) L (v :: w :: v :: st)) : G K nL S pc L (v :: w :: st) := ⟨k.1, fun lv H locs cells slots ls h1 h2 h3 h4 h5 => have C := C lv;  lv_dup_x1 C.hx C.hb d (gcat1_cat v hv) (gcat1_cat w hw) (k.2 lv H locs cells slots ls h1 h2 h3 h4 h5)⟩
theorem g_dup_x2 (C : GC K own cc nL rk tb) {v w u : TV} (d : decode cc pc = .ok (.dup_x2, 1)) (hv : gcat1 v = true) (hw : gcat1 w = true) (hu : gcat1 u = true) (k : G K nL S (pc + 1) L (v :: w :: u :: v :: st)) : G K nL S pc L (v :: w :: u :: st) := ⟨k.1, fun lv H locs cells slots ls h1 h2 h3 h4 h5 => have C := C lv;  lv_dup_x2 C.hx C.hb d (gcat1_cat v hv) (gcat1_cat w hw) (gcat1_cat u hu) (k.2 lv H locs cells slots ls h1 h2 h3 h4 h5)⟩
theorem g_dup2 (C : GC K own cc nL rk tb) {v w : TV} (d : decode cc pc = .ok (.dup2, 1)) (hv : gcat1 v = true) (hw : gcat1 w = true) (k : G K nL S (pc + 1) L (v :: w :: v :: w :: st)) : G K nL S pc L (v :: w :: st) := ⟨k.1, fun lv H locs cells slots ls h1 h2 h3 h4 h5 => have C := C lv;  lv_dup2_11 C.hx C.hb d (gcat1_cat v hv) (gcat1_cat w hw) (k.2 lv H locs cells slots ls h1 h2 h3 h4 h5)⟩
theorem g_if_eq (C : GC K own cc nL rk tb) {x : Int32} {off : Int} {tgt : Nat} {α : Type} {A B R : α} (d : decode cc pc = .ok (.ifCond .eq off, 3)) (ht : (pc : Int) + off = (tgt : Int)) (hd : (if x = 0 then A else B) = R) (kt : A = R → G K nL S tgt L st) (kf : B = R → G K nL S (pc + 3) L st) : G K nL S pc L (vI x :: st) := by
  by_cases h : x = 0
  · rw [if_pos h] at hd
    have k := kt hd
    exact ⟨k.1, fun lv H locs cells slots ls h1 h2 h3 h4 h5 => have C := C lv;  lv_if_eq C.hx C.hb d ht (fun h' => k.2 lv H locs cells slots ls h1 h2 h3 h4 h5) (fun h' => absurd h h')⟩
  · rw [if_neg h] at hd
    have k := kf hd
    exact ⟨k.1, fun lv H locs cells slots ls h1 h2 h3 h4 h5 => have C := C lv;  lv_if_eq C.hx C.hb d ht (fun h' => absurd h' h) (fun h' => k.2 lv H locs cells slots ls h1 h2 h3 h4 h5)⟩
theorem g_icmp_eq (C : GC K own cc nL rk tb) {x y : Int32} {off : Int} {tgt : Nat} {α : Type} {A B R : α} (d : decode cc pc = .ok (.if_icmp .eq off, 3)) (ht : (pc : Int) + off = (tgt : Int)) (hd : (if x = y then A else B) = R) (kt : A = R → G K nL S tgt L st) (kf : B = R → G K nL S (pc + 3) L st) : G K nL S pc L (vI y :: vI x :: st) := by
  by_cases h : x = y
  · rw [if_pos h] at hd
    have k := kt hd
    exact ⟨k.1, fun lv H locs cells slots ls h1 h2 h3 h4 h5 => have C := C lv;  lv_icmp_eq C.hx C.hb d ht (fun h' => k.2 lv H locs cells slots ls h1 h2 h3 h4 h5) (fun h' => absurd h h')⟩
  · rw [if_neg h] at hd
    have k := kf hd
    exact ⟨k.1, fun lv H locs cells slots ls h1 h2 h3 h4 h5 => have C := C lv;  lv_icmp_eq C.hx C.hb d ht (fun h' => absurd h' h) (fun h' => k.2 lv H locs cells slots ls h1 h2 h3 h4 h5)⟩
theorem g_if_ne (C : GC K own cc nL rk tb) {x : Int32} {off : Int} {tgt : Nat} {α : Type} {A B R : α} (d : decode cc pc = .ok (.ifCond .ne off, 3)) (ht : (pc : Int) + off = (tgt : Int)) (hd : (if x = 0 then B else A) = R) (kt : A = R → G K nL S tgt L st) (kf : B = R → G K nL S (pc + 3) L st) : G K nL S pc L (vI x :: st) := by
  by_cases h : x = 0
  · rw [if_pos h] at hd
    have k := kf hd
    exact ⟨k.1, fun lv H locs cells slots ls h1 h2 h3 h4 h5 => have C := C lv;  lv_if_ne C.hx C.hb d ht (fun h' => absurd h h') (fun h' => k.2 lv H locs cells slots ls h1 h2 h3 h4 h5)⟩
  · rw [if_neg h] at hd
    have k := kt hd
    exact ⟨k.1, fun lv H locs cells slots ls h1 h2 h3 h4 h5 => have C := C lv;  lv_if_ne C.hx C.hb d ht (fun h' => k.2 lv H locs cells slots ls h1 h2 h3 h4 h5) (fun h' => absurd h' h)⟩
theorem g_icmp_ne (C : GC K own cc nL rk tb) {x y : Int32} {off : Int} {tgt : Nat} {α : Type} {A B R : α} (d : decode cc pc = .ok (.if_icmp .ne off, 3)) (ht : (pc : Int) + off = (tgt : Int)) (hd : (if x = y then B else A) = R) (kt : A = R → G K nL S tgt L st) (kf : B = R → G K nL S (pc + 3) L st) : G K nL S pc L (vI y :: vI x :: st) := by
  by_cases h : x = y
  · rw [if_pos h] at hd
    have k := kf hd
    exact ⟨k.1, fun lv H locs cells slots ls h1 h2 h3 h4 h5 => have C := C lv;  lv_icmp_ne C.hx C.hb d ht (fun h' => absurd h h') (fun h' => k.2 lv H locs cells slots ls h1 h2 h3 h4 h5)⟩
  · rw [if_neg h] at hd
    have k := kt hd
    exact ⟨k.1, fun lv H locs cells slots ls h1 h2 h3 h4 h5 => have C := C lv;  lv_icmp_ne C.hx C.hb d ht (fun h' => k.2 lv H locs cells slots ls h1 h2 h3 h4 h5) (fun h' => absurd h' h)⟩
theorem g_if_lt (C : GC K own cc nL rk tb) {x : Int32} {off : Int} {tgt : Nat} {α : Type} {A B R : α} (d : decode cc pc = .ok (.ifCond .lt off, 3)) (ht : (pc : Int) + off = (tgt : Int)) (hd : (if x < 0 then A else B) = R) (kt : A = R → G K nL S tgt L st) (kf : B = R → G K nL S (pc + 3) L st) : G K nL S pc L (vI x :: st) := by
  by_cases h : x < 0
  · rw [if_pos h] at hd
    have k := kt hd
    exact ⟨k.1, fun lv H locs cells slots ls h1 h2 h3 h4 h5 => have C := C lv;  lv_if_lt C.hx C.hb d ht (fun h' => k.2 lv H locs cells slots ls h1 h2 h3 h4 h5) (fun h' => absurd h h')⟩
  · rw [if_neg h] at hd
    have k := kf hd
    exact ⟨k.1, fun lv H locs cells slots ls h1 h2 h3 h4 h5 => have C := C lv;  lv_if_lt C.hx C.hb d ht (fun h' => absurd h' h) (fun h' => k.2 lv H locs cells slots ls h1 h2 h3 h4 h5)⟩
theorem g_icmp_lt (C : GC K own cc nL rk tb) {x y : Int32} {off : Int} {tgt : Nat} {α : Type} {A B R : α} (d : decode cc pc = .ok (.if_icmp .lt off, 3)) (ht : (pc : Int) + off = (tgt : Int)) (hd : (if x < y then A else B) = R) (kt : A = R → G K nL S tgt L st) (kf : B = R → G K nL S (pc + 3) L st) : G K nL S pc L (vI y :: vI x :: st) := by
  by_cases h : x < y
  · rw [if_pos h] at hd
    have k := kt hd
    exact ⟨k.1, fun lv H locs cells slots ls h1 h2 h3 h4 h5 => have C := C lv;  lv_icmp_lt C.hx C.hb d ht (fun h' => k.2 lv H locs cells slots ls h1 h2 h3 h4 h5) (fun h' => absurd h h')⟩
  · rw [if_neg h] at hd
    have k := kf hd
    exact ⟨k.1, fun lv H locs cells slots ls h1 h2 h3 h4 h5 => have C := C lv;  lv_icmp_lt C.hx C.hb d ht (fun h' => absurd h' h) (fun h' => k.2 lv H locs cells slots ls h1 h2 h3 h4 h5)⟩
theorem g_if_ge (C : GC K own cc nL rk tb) {x : Int32} {off : Int} {tgt : Nat} {α : Type} {A B R : α} (d : decode cc pc = .ok (.ifCond .ge off, 3)) (ht : (pc : Int) + off = (tgt : Int)) (hd : (if 0 ≤ x then A else B) = R) (kt : A = R → G K nL S tgt L st) (kf : B = R → G K nL S (pc + 3) L st) : G K nL S pc L (vI x :: st) := by
  by_cases h : 0 ≤ x
  · rw [if_pos h] at hd
    have k := kt hd
    exact ⟨k.1, fun lv H locs cells slots ls h1 h2 h3 h4 h5 => have C := C lv;  lv_if_ge C.hx C.hb d ht (fun h' => k.2 lv H locs cells slots ls h1 h2 h3 h4 h5) (fun h' => absurd h h')⟩
  · rw [if_neg h] at hd
    have k := kf hd
    exact ⟨k.1, fun lv H locs cells slots ls h1 h2 h3 h4 h5 => have C := C lv;  lv_if_ge C.hx C.hb d ht (fun h' => absurd h' h) (fun h' => k.2 lv H locs cells slots ls h1 h2 h3 h4 h5)⟩
theorem g_icmp_ge (C : GC K own cc nL rk tb) {x y : Int32} {off : Int} {tgt : Nat} {α : Type} {A B R : α} (d : decode cc pc = .ok (.if_icmp .ge off, 3)) (ht : (pc : Int) + off = (tgt : Int)) (hd : (if y ≤ x then A else B) = R) (kt : A = R → G K nL S tgt L st) (kf : B = R → G K nL S (pc + 3) L st) : G K nL S pc L (vI y :: vI x :: st) := by
  by_cases h : y ≤ x
  · rw [if_pos h] at hd
    have k := kt hd
    exact ⟨k.1, fun lv H locs cells slots ls h1 h2 h3 h4 h5 => have C := C lv;  lv_icmp_ge C.hx C.hb d ht (fun h' => k.2 lv H locs cells slots ls h1 h2 h3 h4 h5) (fun h' => absurd h h')⟩
  · rw [if_neg h] at hd
    have k := kf hd
    exact ⟨k.1, fun lv H locs cells slots ls h1 h2 h3 h4 h5 => have C := C lv;  lv_icmp_ge C.hx C.hb d ht (fun h' => absurd h' h) (fun h' => k.2 lv H locs cells slots ls h1 h2 h3 h4 h5)⟩
theorem g_if_gt (C : GC K own cc nL rk tb) {x : Int32} {off : Int} {tgt : Nat} {α : Type} {A B R : α} (d : decode cc pc = .ok (.ifCond .gt off, 3)) (ht : (pc : Int) + off = (tgt : Int)) (hd : (if 0 < x then A else B) = R) (kt : A = R → G K nL S tgt L st) (kf : B = R → G K nL S (pc + 3) L st) : G K nL S pc L (vI x :: st) := by
  by_cases h : 0 < x
  · rw [if_pos h] at hd
    have k := kt hd
    exact ⟨k.1, fun lv H locs cells slots ls h1 h2 h3 h4 h5 => have C := C lv;  lv_if_gt C.hx C.hb d ht (fun h' => k.2 lv H locs cells slots ls h1 h2 h3 h4 h5) (fun h' => absurd h h')⟩
  · rw [if_neg h] at hd
    have k := kf hd
    exact ⟨k.1, fun lv H locs cells slots ls h1 h2 h3 h4 h5 => have C := C lv;  lv_if_gt C.hx C.hb d ht (fun h' => absurd h' h) (fun h' => k.2 lv H locs cells slots ls h1 h2 h3 h4 h5)⟩
theorem g_icmp_gt (C : GC K own cc nL rk tb) {x y : Int32} {off : Int} {tgt : Nat} {α : Type} {A B R : α} (d : decode cc pc = .ok (.if_icmp .gt off, 3)) (ht : (pc : Int) + off = (tgt : Int)) (hd : (if y < x then A else B) = R) (kt : A = R → G K nL S tgt L st) (kf : B = R → G K nL S (pc + 3) L st) : G K nL S pc L (vI y :: vI x :: st) := by
  by_cases h : y < x
  · rw [if_pos h] at hd
    have k := kt hd
    exact ⟨k.1, fun lv H locs cells slots ls h1 h2 h3 h4 h5 => have C := C lv;  lv_icmp_gt C.hx C.hb d ht (fun h' => k.2 lv H locs cells slots ls h1 h2 h3 h4 h5) (fun h' => absurd h h')⟩
  · rw [if_neg h] at hd
    have k := kf hd
    exact ⟨k.1, fun lv H locs cells slots ls h1 h2 h3 h4 h5 => have C := C lv;  lv_icmp_gt C.hx C.hb d ht (fun h' => absurd h' h) (fun h' => k.2 lv H locs cells slots ls h1 h2 h3 h4 h5)⟩
theorem g_if_le (C : GC K own cc nL rk tb) {x : Int32} {off : Int} {tgt : Nat} {α : Type} {A B R : α} (d : decode cc pc = .ok (.ifCond .le off, 3)) (ht : (pc : Int) + off = (tgt : Int)) (hd : (if x ≤ 0 then A else B) = R) (kt : A = R → G K nL S tgt L st) (kf : B = R → G K nL S (pc + 3) L st) : G K nL S pc L (vI x :: st) := by
  by_cases h : x ≤ 0
  · rw [if_pos h] at hd
    have k := kt hd
    exact ⟨k.1, fun lv H locs cells slots ls h1 h2 h3 h4 h5 => have C := C lv;  lv_if_le C.hx C.hb d ht (fun h' => k.2 lv H locs cells slots ls h1 h2 h3 h4 h5) (fun h' => absurd h h')⟩
  · rw [if_neg h] at hd
    have k := kf hd
    exact ⟨k.1, fun lv H locs cells slots ls h1 h2 h3 h4 h5 => have C := C lv;  lv_if_le C.hx C.hb d ht (fun h' => absurd h' h) (fun h' => k.2 lv H locs cells slots ls h1 h2 h3 h4 h5)⟩
theorem g_icmp_le (C : GC K own cc nL rk tb) {x y : Int32} {off : Int} {tgt : Nat} {α : Type} {A B R : α} (d : decode cc pc = .ok (.if_icmp .le off, 3)) (ht : (pc : Int) + off = (tgt : Int)) (hd : (if x ≤ y then A else B) = R) (kt : A = R → G K nL S tgt L st) (kf : B = R → G K nL S (pc + 3) L st) : G K nL S pc L (vI y :: vI x :: st) := by
  by_cases h : x ≤ y
  · rw [if_pos h] at hd
    have k := kt hd
    exact ⟨k.1, fun lv H locs cells slots ls h1 h2 h3 h4 h5 => have C := C lv;  lv_icmp_le C.hx C.hb d ht (fun h' => k.2 lv H locs cells slots ls h1 h2 h3 h4 h5) (fun h' => absurd h h')⟩
  · rw [if_neg h] at hd
    have k := kf hd
    exact ⟨k.1, fun lv H locs cells slots ls h1 h2 h3 h4 h5 => have C := C lv;  lv_icmp_le C.hx C.hb d ht (fun h' => absurd h' h) (fun h' => k.2 lv H locs cells slots ls h1 h2 h3 h4 h5)⟩
theorem g_acmp_eq (C : GC K own cc nL rk tb) {x y : Option Nat} {off : Int} {tgt : Nat} {α : Type} {A B R : α} (d : decode cc pc = .ok (.if_acmp .eq off, 3)) (ht : (pc : Int) + off = (tgt : Int)) (hd : (if x = y then A else B) = R) (kt : A = R → G K nL S tgt L st) (kf : B = R → G K nL S (pc + 3) L st) : G K nL S pc L (vR y :: vR x :: st) := by
  by_cases h : x = y
  · rw [if_pos h] at hd
    have k := kt hd
    exact ⟨k.1, fun lv H locs cells slots ls h1 h2 h3 h4 h5 => have C := C lv;  lv_acmp_eq C.hx C.hb d ht (fun h' => k.2 lv H locs cells slots ls h1 h2 h3 h4 h5) (fun h' => absurd h h')⟩
  · rw [if_neg h] at hd
    have k := kf hd
    exact ⟨k.1, fun lv H locs cells slots ls h1 h2 h3 h4 h5 => have C := C lv;  lv_acmp_eq C.hx C.hb d ht (fun h' => absurd h' h) (fun h' => k.2 lv H locs cells slots ls h1 h2 h3 h4 h5)⟩
theorem g_acmp_ne (C : GC K own cc nL rk tb) {x y : Option Nat} {off : Int} {tgt : Nat} {α : Type} {A B R : α} (d : decode cc pc = .ok (.if_acmp .ne off, 3)) (ht : (pc : Int) + off = (tgt : Int)) (hd : (if x = y then B else A) = R) (kt : A = R → G K nL S tgt L st) (kf : B = R → G K nL S (pc + 3) L st) : G K nL S pc L (vR y :: vR x :: st) := by
  by_cases h : x = y
  · rw [if_pos h] at hd
    have k := kf hd
    exact ⟨k.1, fun lv H locs cells slots ls h1 h2 h3 h4 h5 => have C := C lv;  lv_acmp_ne C.hx C.hb d ht (fun h' => absurd h h') (fun h' => k.2 lv H locs cells slots ls h1 h2 h3 h4 h5)⟩
  · rw [if_neg h] at hd
    have k := kt hd
    exact ⟨k.1, fun lv H locs cells slots ls h1 h2 h3 h4 h5 => have C := C lv;  lv_acmp_ne C.hx C.hb d ht (fun h' => k.2 lv H locs cells slots ls h1 h2 h3 h4 h5) (fun h' => absurd h' h)⟩
theorem g_ifnull (C : GC K own cc nL rk tb) {x : Option Nat} {off : Int} {tgt : Nat} {α : Type} {A B R : α} (d : decode cc pc = .ok (.ifnull off, 3)) (ht : (pc : Int) + off = (tgt : Int)) (hd : (if x = none then A else B) = R) (kt : A = R → G K nL S tgt L st) (kf : B = R → G K nL S (pc + 3) L st) : G K nL S pc L (vR x :: st) := by
  cases x with
  | none =>
    have k := kt (by simpa using hd)
    exact ⟨k.1, fun lv H locs cells slots ls h1 h2 h3 h4 h5 => have C := C lv;  lv_ifnullN C.hx C.hb d ht (k.2 lv H locs cells slots ls h1 h2 h3 h4 h5)⟩
  | some x =>
    have k := kf (by simpa using hd)
    exact ⟨k.1, fun lv H locs cells slots ls h1 h2 h3 h4 h5 => have C := C lv;  lv_ifnull C.hx C.hb d (k.2 lv H locs cells slots ls h1 h2 h3 h4 h5)⟩
theorem g_ifnonnull (C : GC K own cc nL rk tb) {x : Option Nat} {off : Int} {tgt : Nat} {α : Type} {A B R : α} (d : decode cc pc = .ok (.ifnonnull off, 3)) (ht : (pc : Int) + off = (tgt : Int)) (hd : (if x = none then B else A) = R) (kt : A = R → G K nL S tgt L st) (kf : B = R → G K nL S (pc + 3) L st) : G K nL S pc L (vR x :: st) := by
  cases x with
  | none =>
    have k := kf (by simpa using hd)
    exact ⟨k.1, fun lv H locs cells slots ls h1 h2 h3 h4 h5 => have C := C lv;  lv_ifnonnullN C.hx C.hb d (k.2 lv H locs cells slots ls h1 h2 h3 h4 h5)⟩
  | some x =>
    have k := kt (by simpa using hd)
    exact ⟨k.1, fun lv H locs cells slots ls h1 h2 h3 h4 h5 => have C := C lv;  lv_ifnonnull C.hx C.hb d ht (k.2 lv H locs cells slots ls h1 h2 h3 h4 h5)⟩
theorem g_goto (C : GC K own cc nL rk tb) {off : Int} {tgt : Nat} (d : decode cc pc = .ok (.goto off, 3)) (ht : (pc : Int) + off = (tgt : Int)) (k : G K nL S tgt L st) : G K nL S pc L st := ⟨k.1, fun lv H locs cells slots ls h1 h2 h3 h4 h5 => have C := C lv;  lv_goto C.hx C.hb d ht (k.2 lv H locs cells slots ls h1 h2 h3 h4 h5)⟩
end GR
