/-! statics, natives, class objects, throws; the classes of the world by their numbers -/
section GS
variable {K : KT} {own : String} {cc : ByteArray} {nL rk : Nat} {tb : List ExceptionTableEntry} {S : St} {pc : Nat} {L : List (Nat × TV)} {st : List TV} {ρ : Type} {z : ρ}
theorem gS_of (C : GC0 K own cc nL rk tb) {H : Heap} {locs : List Loc} {cells : Nat} (h1 : kHI K S H) (h2 : ∀ z ∈ locs, gb0 (kΓ K) ≤ z.base) (h3 : cells + (kS0 K).2.1 = S.2.1) : va_S (gA (kΓ K)) (ks K).heap H locs := by
  have e1 := C.hi.2.2.2.2.2.1 _ _ C.h0
  have e2 := C.hi.2.2.2.2.2.1 _ _ h1
  refine ⟨by omega, fun q hq hA => ?_, h2⟩
  have hlt : q < gb0 (kΓ K) := Nat.lt_of_not_le hA
  rw [(C.hi.2.2.2.2.2.2.1 _ _ h1).2 q hlt, C.old.2 q hlt]
theorem gZ_of (C : GC0 K own cc nL rk tb) {Cn n d : String} {v : Value} (h : va_Z Cn n d v (gA (kΓ K)) (ks K) (kΓ K).2.2.1) : va_Z Cn n d v (gA (kΓ K)) (ks K) (ks K).heap := va_Z.kept h fun a ha _ => C.old.2 a ha
theorem gZq_of (C : GC0 K own cc nL rk tb) {Cn n d : String} (h : vx_Zq Cn n d (gA (kΓ K)) (ks K) (kΓ K).2.2.1) : vx_Zq Cn n d (gA (kΓ K)) (ks K) (ks K).heap := vx_Zq.kept h fun a ha _ => C.old.2 a ha
/-- a static that holds a constant reference (by its place) -/
theorem g_getsR (C : GC K own cc nL rk tb) {Cn n d ref : String} {index : Nat} (k : Nat) (hZ : kLv K → va_Z Cn n d (.ref ((kΓ K).2.2.2 k)) (gA (kΓ K)) (ks K) (kΓ K).2.2.1) (hl : Cond.fieldLink own index ref n d ∈ lw_all) (hs : ref = Cn) (dd : decode cc pc = .ok (.getstatic index, 3)) (kk : G K nL S (pc + 3) L (vR (some (S.2.2.2 k)) :: st)) : G K nL S pc L st := by
  refine ⟨kk.1, fun lv H locs cells slots ls h1 h2 h3 h4 h5 => ?_⟩
  have C := C lv
  have h := kk.2 lv H locs cells slots ls h1 h2 h3 h4 h5
  rw [C.hi.2.2.2.2.2.2.2.2.2 S H h1] at h
  exact va_gets C.hx C.hb (gZ_of C (hZ lv)) (gS_of C h1 h2 h3) C.hown (C.hts _ hl) (fun x hx => by rw [hs]; exact hx) dd h
theorem g_getsI (C : GC K own cc nL rk tb) {Cn n d ref : String} {index : Nat} {x : Int32} (hZ : kLv K → va_Z Cn n d (.int x) (gA (kΓ K)) (ks K) (kΓ K).2.2.1) (hl : Cond.fieldLink own index ref n d ∈ lw_all) (hs : ref = Cn) (dd : decode cc pc = .ok (.getstatic index, 3)) (kk : G K nL S (pc + 3) L (vI x :: st)) : G K nL S pc L st := by
  refine ⟨kk.1, fun lv H locs cells slots ls h1 h2 h3 h4 h5 => ?_⟩
  have C := C lv
  exact va_gets C.hx C.hb (gZ_of C (hZ lv)) (gS_of C h1 h2 h3) C.hown (C.hts _ hl) (fun x hx => by rw [hs]; exact hx) dd (kk.2 lv H locs cells slots ls h1 h2 h3 h4 h5)
/-- the class object of Object[] -/
theorem g_ldcM (C : GC K own cc nL rk tb) {index : Nat} (hl : Cond.classLink own index "[Ljava/lang/Object;" ∈ lw_all) (d : decode cc pc = .ok (.ldc index, 2)) (kk : G K nL S (pc + 2) L (vR (some (S.2.2.2 4)) :: st)) : G K nL S pc L st := by
  refine ⟨kk.1, fun lv H locs cells slots ls h1 h2 h3 h4 h5 => ?_⟩
  have C := C lv
  have h := kk.2 lv H locs cells slots ls h1 h2 h3 h4 h5
  rw [C.hi.2.2.2.2.2.2.2.2.2 S H h1] at h
  exact va_ldcM C.hx C.hb C.hown (C.hts _ hl) C.hk.2.2.2.2.2.2.1 d h
theorem g_getC (C : GC K own cc nL rk tb) {index : Nat} (hl : Cond.methodLink own index ⟨"java/lang/Object", "getClass", "()Ljava/lang/Class;"⟩ ∈ lw_all) (hrk : 1 ≤ rk) (hsm : gsm st ≤ 8) (d : decode cc pc = .ok (.invokevirtual index, 3)) {r : Option Nat} {X : Option ρ} (hd : (if gcsA S r = true then X else none) = some z) (kk : X = some z → G K nL S (pc + 3) L (vR (some (S.2.2.2 4)) :: st)) : G K nL S pc L (vR r :: st) := by
  split at hd
  case isFalse => cases hd
  next hg =>
  have kk := kk hd
  refine ⟨kk.1, fun lv H locs cells slots ls h1 h2 h3 h4 h5 => ?_⟩
  have C := C lv
  have h := kk.2 lv H locs cells slots ls h1 h2 h3 h4 h5
  rw [C.hi.2.2.2.2.2.2.2.2.2 S H h1] at h
  unfold gcsA at hg
  split at hg
  case h_2 => cases hg
  next q k n f hc =>
  obtain ⟨rfl, hq⟩ := gcell_some hc
  cases eq_of_beq hg
  have hcell := gAt_arr (C.hi.1 S H q _ h1 hq) (by decide)
  have hnm := va_nmO (g_tyK C 4 (by decide)).2 (nm := "[Ljava/lang/Object;") (by decide)
  exact va_getC C.hx C.hb (by rw [C.hml]; exact h5.1.symm) C.hown (C.hts _ hl) (va_Nw.use rfl (C.nw q2456 rfl)) (C.hts _ q2455) (C.hts _ q309) (C.hts _ q339) C.hk.2.2.2.2.2.2.1 ⟨_, hcell, rfl, hnm⟩ (by rw [C.fr]; exact hrk) (by rw [C.lo]; have := gsm_cat st; omega) d h
def okT (S : St) (v : TV) : Bool := match v with
  | .inr (.inl r) => okst S 4 r
  | _ => false
/-- System.arraycopy between arrays of Object -/
def acp (S : St) (src : Option Nat) (sp : Int32) (dst : Option Nat) (dp n : Int32) : Option St := (garr S src 4).bind fun a => (garr S dst 4).bind fun b =>
  if ¬ sp < 0 ∧ ¬ dp < 0 ∧ ¬ n < 0 ∧ sp.toNatClampNeg + n.toNatClampNeg ≤ a.2.1 ∧ dp.toNatClampNeg + n.toNatClampNeg ≤ b.2.1 ∧ (∀ i, i < n.toNatClampNeg → okT S (a.2.2 (sp.toNatClampNeg + i)) = true) then some (sup S b.1 (cA 4 b.2.1 (va_cpy a.2.2 b.2.2 sp.toNatClampNeg dp.toNatClampNeg n.toNatClampNeg))) else none
theorem nn_toInt : ∀ z : Int32, ¬ z < 0 → z.toInt = (z.toNatClampNeg : Int) := by
  intro z hz
  have hz0 : (0 : Int) ≤ z.toInt := by
    have := Int32.not_lt.mp hz
    simpa using Int32.le_iff_toInt_le.mp this
  show z.toInt = ((z.toInt.toNat : Nat) : Int)
  omega
theorem g_acopy (C : GC K own cc nL rk tb) {index : Nat} (hl : Cond.methodLink own index arraycopyName ∈ lw_all) (hrk : 1 ≤ rk) (hsm : gsm st ≤ 8) (d : decode cc pc = .ok (.invokestatic index, 3)) {src dst : Option Nat} {sp dp n : Int32} {S' : St} (hv : acp S src sp dst dp n = some S') (kk : G K nL S' (pc + 3) L st) : G K nL S pc L (vI n :: vI dp :: vR dst :: vI sp :: vR src :: st) := by
  obtain ⟨⟨a0, n0, f⟩, ha, hv2⟩ := Option.bind_eq_some_iff.mp hv
  obtain ⟨⟨a, n1, g⟩, hb, hv3⟩ := Option.bind_eq_some_iff.mp hv2
  clear hv hv2
  obtain ⟨rfl, ha1⟩ := garr_some ha
  obtain ⟨rfl, hb1⟩ := garr_some hb
  dsimp only at hv3
  split at hv3
  case isFalse => cases hv3
  next hh =>
  obtain ⟨k1, k2, k3, k4, k5, hel⟩ := hh
  cases hv3
  refine ⟨kk.1, fun lv H locs cells slots ls h1 h2 h3 h4 h5 => ?_⟩
  have C := C lv
  have hc0 := gAt_arr (C.hi.1 S H a0 _ h1 ha1) (by decide)
  have hc1 := gAt_arr (C.hi.1 S H a _ h1 hb1) (by decide)
  obtain ⟨hAr, kA, comp, r1, r2, r3, -⟩ := g_tyK C 4 (by decide)
  obtain ⟨kO, hkO, -⟩ := Vm.findClass_spec r3
  have e8 := gsm_cat st
  have e9 : nativeFrameWords "java/lang/System" "arraycopy" 5 ≤ 20 := by decide +kernel
  intro T hT X
  obtain ⟨vm', X', step⟩ := X.arraycopy C.hx C.hown (C.hts _ hl) (C.hts _ q351) (C.hts _ q350) (C.hts _ q106) (src := a0) (dst := a) (cs := arrV ((kΓ K).2.1 4) n0 (fun j => tv (f j))) (cd := arrV ((kΓ K).2.1 4) n1 (fun j => tv (g j))) (srcPos := sp) (destPos := dp) (n := n) (by rw [hT]; exact hc0) (by rw [hT]; exact hc1)
    (fun _ h => by cases h) (fun _ h => by cases h) (fun h => by cases h) (fun h => by cases h) r1 r1 r2 r2 rfl k1 k2 k3
    (by rw [nn_toInt sp k1, nn_toInt n k3, arrV_size]; omega)
    (by rw [nn_toInt dp k2, nn_toInt n k3, arrV_size]; omega)
    (fun vm₁ hal i hi => by
      have e : (arrV ((kΓ K).2.1 4) n0 (fun j => tv (f j))).slots.getD (sp.toNatClampNeg + i) .null = tv (f (sp.toNatClampNeg + i)) := by
        rw [Array.getD_eq_getD_getElem?, arrV_read _ _ (by omega)]
        rfl
      rw [e]
      have ho := hel i hi
      unfold okT at ho
      split at ho
      case h_2 => cases ho
      next r hr =>
      rw [hr]
      cases r with
      | none => exact ⟨rfl, trivial⟩
      | some y =>
        simp only [okst] at ho
        split at ho
        case h_2 => cases ho
        next e2 he =>
        simp only [Bool.or_eq_true, Bool.and_eq_true, beq_iff_eq, bne_iff_ne] at ho
        have hE : gclsOf e2 ≠ 99 := by rcases ho with h | h <;> omega
        have hat := C.hi.1 S H y e2 h1 he
        obtain ⟨cv, c1, c2, c3⟩ := gAt_cls hat hE
        have hcl : ∃ r : vw_C, g_cl[gclsOf e2]? = some r := by
          rcases e2 with ⟨k, n, f⟩ | ⟨c, fs⟩ | x | x | x | x | x | x
          · exact absurd rfl hE
          · obtain ⟨r, h1, -⟩ := hat
            exact ⟨r, h1⟩
          all_goals exact ⟨_, rfl⟩
        obtain ⟨rr, hrr⟩ := hcl
        have hKn := (C.kk.1 _ rr hrr).2
        obtain ⟨kC, hkC, -⟩ := hKn.2
        obtain ⟨c0, t0, f1, f2, f3⟩ := Cond.castable_spec (va_Nw.use (A := #[]) rfl (C.nw (g_cobj _ rr hrr) rfl))
        cases f1.symm.trans hKn.1
        cases f2.symm.trans r3
        obtain ⟨kC', hkC', -⟩ := hal.2.2 _ _ hkC
        obtain ⟨kE', hkE', -⟩ := hal.2.2 _ _ hkO
        refine ⟨rfl, cv, (show T.heap[y]? = some cv by rw [hT]; exact c1), (fun q h => by rw [h] at c3; cases c3), ⟨kC', by rw [c2]; exact hkC'⟩, ⟨kE', hkE'⟩, ?_⟩
        show vm₁.assignable _ _ = true
        rw [hal.assignable, c2]
        exact f3)
    (g := F0 (km K) pc ls (.int n :: .int dp :: .ref a :: .int sp :: .ref a0 :: st.map tv)) rfl (by rw [C.hml]; exact h5.1) (rest := st.map tv) rfl (by rw [C.hb]; exact d) (by rw [C.fr]; exact hrk) (by rw [C.lo]; show 2 * 0 + _ + _ ≤ _; omega)
  have e1 : copied (arrV ((kΓ K).2.1 4) n0 (fun j => tv (f j))) (arrV ((kΓ K).2.1 4) n1 (fun j => tv (g j))) sp dp n = arrV ((kΓ K).2.1 4) n1 (fun j => tv (va_cpy f g sp.toNatClampNeg dp.toNatClampNeg n.toNatClampNeg j)) := va_copied tv _ _ f g k4
  rw [e1] at X' step
  have hlt : a < H.size := (Array.getElem?_eq_some_iff.mp hc1).1
  generalize hcd : arrV ((kΓ K).2.1 4) n1 (fun j => tv (va_cpy f g sp.toNatClampNeg dp.toNatClampNeg n.toNatClampNeg j)) = cd at X' step
  have hheap : ((T.setVm vm').setCell a cd).heap = H.setIfInBounds a cd := by rw [← hT]; rfl
  have hat : gAt (kΓ K) a (cA 4 n1 (va_cpy f g sp.toNatClampNeg dp.toNatClampNeg n.toNatClampNeg)) (H.setIfInBounds a cd) := by
    simp only [gAt]
    rw [if_pos (by decide), hcd]
    simp [Array.getElem?_setIfInBounds, hlt]
  obtain ⟨t, b1, b2⟩ := kk.2 lv (H.setIfInBounds a cd) _ cells slots ls (C.hi.2.2.1 S H _ a 4 n1 g _ h1 hb1 (by decide) (by simp) (fun q hq => by simp [Array.getElem?_setIfInBounds, Ne.symm hq]) hat) (fun y hy => by
    rcases List.mem_append.mp hy with h | h
    · exact h2 y h
    · obtain ⟨w, -, hw⟩ := List.mem_map.mp h
      rw [← hw]
      exact C.hi.2.2.2.2.2.2.2.2.1 S H a 4 n1 g h1 hb1 (by decide)) h3 h4 h5 _ hheap X'
  exact ⟨t, step t b1, b2⟩
/-- x compared with y, two longs -/
def gcmp (x y : Int64) : Int32 := lg_cmp x y
theorem g_lcmp (C : GC K own cc nL rk tb) {x y : Int64} (d : decode cc pc = .ok (.lcmp, 1)) (k : G K nL S (pc + 1) L (vI (gcmp x y) :: st)) : G K nL S pc L (vL y :: vL x :: st) := ⟨k.1, fun lv H locs cells slots ls h1 h2 h3 h4 h5 => have C := C lv; W.lcmp C.hx C.hb d (k.2 lv H locs cells slots ls h1 h2 h3 h4 h5)⟩
end GS
theorem gk_X1 : GCl 0 12 RX1 TX1 tyX1 := ⟨rfl, in_X1, tyX1_ok, nmX1⟩
theorem gk_X2 : GCl 1 9 RX2 TX2 tyX2 := ⟨rfl, in_X2, tyX2_ok, nmX2⟩
theorem gk_X4 : GCl 2 2 RX4 TX4 tyX4 := ⟨rfl, in_X4, tyX4_ok, nmX4⟩
theorem gk_X5 : GCl 3 3 RX5 TX5 tyX5 := ⟨rfl, in_X5, tyX5_ok, nmX5⟩
theorem gk_X6 : GCl 4 5 RX6 TX6 tyX6 := ⟨rfl, in_X6, tyX6_ok, nmX6⟩
theorem gk_X7 : GCl 5 6 RX7 TX7 tyX7 := ⟨rfl, in_X7, tyX7_ok, nmX7⟩
theorem gk_X8 : GCl 6 5 RX8 TX8 tyX8 := ⟨rfl, in_X8, tyX8_ok, nmX8⟩
theorem gk_X9 : GCl 7 2 RX9 TX9 tyX9 := ⟨rfl, in_X9, tyX9_ok, nmX9⟩
theorem gk_J2 : GCl 8 3 RJ2 TJ2 tyJ2 := ⟨rfl, in_J2, tyJ2_ok, nmJ2⟩
theorem gk_J4 : GCl 9 4 RJ4 TJ4 tyJ4 := ⟨rfl, in_J4, tyJ4_ok, nmJ4⟩
theorem gk_J5 : GCl 10 3 RJ5 TJ5 tyJ5 := ⟨rfl, in_J5, tyJ5_ok, nmJ5⟩
theorem gk_J9 : GCl 11 3 RJ9 TJ9 tyJ9 := ⟨rfl, in_J9, tyJ9_ok, nmJ9⟩
theorem gk_J26 : GCl 12 4 RJ26 TJ26 tyJ26 := ⟨rfl, in_J26, tyJ26_ok, nmJ26⟩
theorem gk_J29 : GCl 13 5 RJ29 TJ29 tyJ29 := ⟨rfl, in_J29, tyJ29_ok, nmJ29⟩
theorem gk_J33 : GCl 14 3 RJ33 TJ33 tyJ33 := ⟨rfl, in_J33, tyJ33_ok, nmJ33⟩
theorem gk_X3 : GCl 15 46 RX3 TX3 tyX3 := ⟨rfl, in_X3, tyX3_ok, nmX3⟩
theorem gk_J23 : GCl 16 1 RJ23 TJ23 tyJ23 := ⟨rfl, in_J23, tyJ23_ok, nmJ23⟩
theorem g_words {ws : List Cond} (ps : List Nat) (hp : ws = ps.filterMap (fun i => lw_tbl[i]?)) (hg : ws.all (fun w => goodWord w || g_keep w) = true) : ∀ w ∈ ws, w ∈ lw_all ∨ (w ∈ lw_tbl ∧ g_keep w = true) := by
  intro w hw
  have h1 := List.all_eq_true.mp hg w hw
  rw [hp] at hw
  obtain ⟨i, -, hi⟩ := List.mem_filterMap.mp hw
  have ht : w ∈ lw_tbl := List.mem_of_getElem? hi
  simp only [Bool.or_eq_true] at h1
  rcases h1 with h1 | h1
  · exact Or.inl (lw_g ht h1)
  · exact Or.inr ⟨ht, h1⟩
section GTX
variable {p : Program} {l : Launch} {e : Env} {R : Room} {s : State} {m : MethodId} {args : Array Value} {below : List Frame} {meth : Method} {c : Code} {H : Heap} {locs : List Loc} {cells slots : Nat} {Q : State → Prop}
variable {mc ms : Nat} {free : Addr → Prop} {A0 A1 : Nat → Prop} {H0 : Heap} {a : Array Value} {ls : Array Slot} {st0 rest : List Value}
variable {Qc : Array Value → State → Outcome → State → Prop} {XC : String → State → State → Prop}
/-- vx_throw0 of the kit, saying the heap's size exactly -/
theorem gx_throw0 {cc : ByteArray} {pc : Nat} (hexec : p.tables.exec = Jvm.exec) (hb : c.code = cc) (hl : l.stackTraces = false) {own cls : String} {names : List String} {ik ic mc ms : Nat} {A : Nat → Prop}
    (hown : s.vm.findClass own = some m.cls) (hcls : Bundle.fit cls = true) (hnames : ∀ n ∈ names, Bundle.fit n = true)
    (hk : (Cond.classLink own ik cls).before args s = true) (hini : (Cond.initialized cls).before args s = true) (hat : ∀ w ∈ vx_at0 own ic cls names, w.before args s = true)
    (hgood : ∀ w ∈ Cond.classLink own ik cls :: Cond.initialized cls :: vx_at0 own ic cls names, vx_ot w = true)
    (hU : vx_Zq Bundle.tN "UNASSIGNED_STACK" Bundle.steD A s s.heap) (hN : vx_Zq Bundle.tN "SUPPRESSED_SENTINEL" Bundle.listD A s s.heap) (hS : va_S A s.heap H locs) (hsize : ls.size = c.maxLocals)
    (d0 : decode cc pc = .ok (.new ik, 3)) (d3 : decode cc (pc + 3) = .ok (.dup, 1)) (d4 : decode cc (pc + 4) = .ok (.invokespecial ic, 3)) (d7 : decode cc (pc + 7) = .ok (.athrow, 1))
    (hout : ∀ x ∈ c.exceptionTable.toList, covers x (pc + 7) = false)
    (hRframes : names.length + 3 < R.frames) (hRlocals : (rest.map fun v => v.category).sum + (13 * (names.length + 1) + 42) ≤ R.locals) (hRcells : cells + 1 ≤ R.cells) (hRslots : slots + 6 ≤ R.slots) (hlocks : meth.locks = false)
    (hx : ∀ t : State, s.vm.Alike t.vm → t.heap.size = H.size + 1 → (∀ q : Nat, q < H.size → t.heap[q]? = H[q]?) → XC cls s t)
    (hf : ∀ z ∈ locs, free z.base) (hc : cells + 1 ≤ mc) (hs : slots + 6 ≤ ms) :
    W p l e R s m args below meth c H locs cells slots (vx_MQ below Qc XC args s mc ms free) (F0 m pc ls rest) := by
  intro T hT X
  have htr : e.platform.stackTraces = false := (show e.platform.stackTraces = l.stackTraces by rw [X.admits.platform]).trans hl
  have Y := vx_rebase X (R' := { frames := R.frames, locals := R.locals, cells := 1, slots := 6 }) (Nat.le_refl _) (Nat.le_refl _) hRcells hRslots
  obtain ⟨s', hA⟩ : ∃ z, z = (T.setVm s.vm).setFrames (.invoking m args :: below) := ⟨_, rfl⟩
  rw [← hA] at Y
  have hvm : s'.vm = s.vm := by rw [hA]; rfl
  have hhp : s'.heap = H := by rw [hA]; exact hT
  have hW0 : s.WarmedH s'.vm := by rw [hvm]; exact State.WarmedH.refl s
  have hat' : ∀ w ∈ vx_at0 own ic cls names, w.before args s' = true := fun w hw => vx_ot_at hW0 hvm.symm (hgood w (List.mem_cons_of_mem _ (List.mem_cons_of_mem _ hw))) (hat w hw)
  have hk' : (Cond.classLink own ik cls).before args s' = true := vx_ot_at hW0 hvm.symm (hgood _ List.mem_cons_self) hk
  have hini' : (Cond.initialized cls).before args s' = true := vx_ot_at hW0 hvm.symm (hgood _ (List.mem_cons_of_mem _ List.mem_cons_self)) hini
  have hU' : vx_Zq Bundle.tN "UNASSIGNED_STACK" Bundle.steD A s' s'.heap := by rw [hhp]; exact vx_Zq.moved hW0.alike (hU.kept hS.2.1)
  have hN' : vx_Zq Bundle.tN "SUPPRESSED_SENTINEL" Bundle.listD A s' s'.heap := by rw [hhp]; exact vx_Zq.moved hW0.alike (hN.kept hS.2.1)
  have h : ∀ w ∈ Bundle.ownAtoms0 own ic cls names, w.before args s' = true := vx_own hat' (vx_isRefq hU'.1) (vx_isRefq hN'.1) hU'.2.word hN'.2.word
  have hown' : s'.vm.findClass own = some m.cls := by rw [hvm]; exact hown
  have hins : (Cond.instantiable cls 6).before args s' = true := h _ (by simp [Bundle.ownAtoms0])
  obtain ⟨vm₁, cX, kX, hfX, hkX, -, -, X₁, st1⟩ := Y.newCold hexec (own := own) (C := cls) (index := ik) (n := 6) hown' hk' hins hini'
    (g := F0 m pc ls rest) rfl (by rw [hb]; exact d0) (Nat.le_refl _) (Nat.le_refl _)
  generalize hT1 : (T.setVm vm₁).pushCell { cls := cX, slots := kX.instanceTypes.map defaultValue, vm := .none } = T1 at X₁ st1
  have hcat : (Value.ref T.heap.size).category = 1 := rfl
  have hcellA : T1.heap[T.heap.size]? = some (freshCell cX kX) := by rw [← hT1]; exact State.heap_pushCell_size _ _
  have d3' : decode c.code (pc + 3) = .ok (.dup, 1) := by rw [hb]; exact d3
  obtain ⟨U, hsteps, hrun, hend, hW, hsame, ce, hce, hO⟩ := X₁.ctorThrow0 hexec htr (own := own) (cls := cls) (names := names) (ic := ic) hown' hcls hnames h (fun x hx => nomatch hx) hfX hkX hcellA (by rw [hhp, hT]; exact Nat.le_refl _)
    (g := { method := m, pc := pc + 4, locals := ls, stack := .ref T.heap.size :: .ref T.heap.size :: rest, locked := none }) rfl hsize rfl rfl (rest := rest) rfl
    (by rw [hb]; exact d4) (by rw [hb]; exact d7) hout hRframes (by simp only [List.map_cons, List.sum_cons, hcat]; omega) hlocks
  obtain ⟨f1, f2⟩ := vx_frame hsame
  rw [hhp] at f1 f2
  have f9 : U.heap.size = H.size + 1 := by
    obtain ⟨-, z2, z3, -⟩ := id hsame
    have z4 : U.heap.size ≤ s'.heap.size + (0 + 1) := z3
    rw [hhp] at z4
    have z5 := (Array.getElem?_eq_some_iff.mp hce).1
    rw [hT] at z5
    omega
  have hWs : s.WarmedH U.vm := State.WarmedH.trans hW0 hW
  have hcl : s.vm.findClass cls = some ce.cls := by
    have h9 := hO.cls
    rw [hvm] at h9
    exact h9
  have hall : s.sameButNew ({ U with vm := s.vm } : State) locs mc ms := by
    subst hA
    obtain ⟨e1, e2⟩ := hsame
    rw [State.setFrames_setFrames] at e1
    have h2 : (T.setVm s.vm).sameButNew ({ U with vm := s.vm } : State) [] (0 + 1) (0 + 6) := ⟨e1, e2⟩
    have h3 := X.same.trans h2
    rw [List.append_nil] at h3
    exact h3.mono hc hs
  refine ⟨U, ?_, .threw T.heap.size, hrun, hend, Or.inr ⟨T.heap.size, rfl, cls, ce, locs, hx U hWs.alike f9 (fun q hq => f2 q hq (fun z hz => nomatch hz)), hce, hO.vm, hcl, hWs, hall, hf⟩⟩
  refine st1 _ ?_
  show Steps p.tables e below (T1.setTop { method := m, pc := pc + 3, locals := ls, stack := .ref T.heap.size :: rest, locked := none }) _
  jvm_step X₁.here [X₁.here.top, hexec, d3', Value.category]
  exact hsteps
end GTX
section GT
variable {K : KT} {own : String} {cc : ByteArray} {nL rk : Nat} {S : St} {pc : Nat} {L : List (Nat × TV)} {st : List TV}
/-- 'throw new E()', not caught here -/
theorem g_throw (C : GC K own cc nL rk []) {E : String} {ik ic : Nat} {rt : Option FieldType} {S1 : St} (names : List String) (hcls : Bundle.fit E = true) (hnames : ∀ n ∈ names, Bundle.fit n = true) (h1 : Cond.classLink own ik E ∈ lw_all) (h2 : Cond.initialized E ∈ lw_all) (hw : ∀ w ∈ vx_at0 own ic E names, w ∈ lw_all ∨ (w ∈ lw_tbl ∧ g_keep w = true)) (hgood : ∀ w ∈ Cond.classLink own ik E :: Cond.initialized E :: vx_at0 own ic E names, vx_ot w = true) (hl : names.length ≤ 3) (hrk : 7 ≤ rk) (hsm : gsm st ≤ 8) (Qh : GQ K rt (.inr E) S1) (hS : ssk S 6 = S1)
    (d0 : decode cc pc = .ok (.new ik, 3)) (d3 : decode cc (pc + 3) = .ok (.dup, 1)) (d4 : decode cc (pc + 4) = .ok (.invokespecial ic, 3)) (d7 : decode cc (pc + 7) = .ok (.athrow, 1)) : G K nL S pc L st := by
  subst hS
  obtain ⟨e1, e2⟩ := Qh
  refine ⟨by rw [e1]; simp only [ssk]; omega, fun lv H locs cells slots ls g1 g2 g3 g4 g5 => ?_⟩
  obtain ⟨e2, -⟩ := e2 lv
  have C := C lv
  rw [e2]
  have r1 := C.rc
  have r2 := C.rs
  rw [e1] at r1 r2
  simp only [ssk] at r1 r2
  have hat : ∀ w ∈ vx_at0 own ic E names, w.before (ka K) (ks K) = true := fun w h => (hw w h).elim (C.hts w) (fun q => va_Nw.use (by have := q.2; cases w <;> first | rfl | cases this) (C.nw q.1 q.2))
  have hsz := C.hi.2.2.2.2.2.1 S H g1
  refine gx_throw0 C.hx C.hb C.ntr C.hown hcls hnames (C.hts _ h1) (C.hts _ h2) hat hgood (gZq_of C C.hk.2.2.2.2.2.1.1) (gZq_of C C.hk.2.2.2.2.2.1.2) (gS_of C g1 g2 g3) (by rw [C.hml]; exact g5.1) d0 d3 d4 d7 (fun x hx => by rw [C.tab] at hx; cases hx) (by rw [C.fr]; omega) (by rw [C.lo]; have := gsm_cat st; omega) (by omega) (by omega) C.locks (fun t hA hz ho => ⟨rfl, ?_⟩) g2 (by simp only [ssk]; omega) (by simp only [ssk]; omega)
  exact C.hi.2.2.2.2.1 S H _ 6 g1 hz ho
end GT
