/-! boxed ints: the cache's array and its boxes, new boxes -/
/-- the cache's box at a place -/
def gca (S : St) (i : Int32) : Option (Option Nat) := if i < 0 ∨ 256 ≤ i.toNatClampNeg then none else some (some (S.2.2.2 (100 + i.toNatClampNeg)))
/-- what a box holds -/
def gbv (S : St) (r : Option Nat) : Option Int32 := match gcell S r with
  | some (_, .inr (.inr (.inr (.inr (.inr (.inr (.inr x))))))) => some x
  | some (_, .inr (.inl (c, fs))) => if c = 16 then (fs[0]?).bind asI else none
  | _ => none
section GBX
variable {K : KT} {own : String} {cc : ByteArray} {nL rk : Nat} {tb : List ExceptionTableEntry} {S : St} {pc : Nat} {L : List (Nat × TV)} {st : List TV}
theorem g_aaldC (C : GC K own cc nL rk tb) (d : decode cc pc = .ok (.aaload, 1)) {i : Int32} {v : Option Nat} (hv : gca S i = some v) (kk : G K nL S (pc + 1) L (vR v :: st)) : G K nL S pc L (vI i :: vR (some (S.2.2.2 5)) :: st) := by
  unfold gca at hv
  split at hv
  case isTrue => cases hv
  next hin =>
  cases hv
  refine ⟨kk.1, fun lv H locs cells slots ls h1 h2 h3 h4 h5 => ?_⟩
  have C := C lv
  have h := kk.2 lv H locs cells slots ls h1 h2 h3 h4 h5
  have hcn := C.hi.2.2.2.2.2.2.2.2.2 S H h1
  rw [hcn] at h ⊢
  exact vb_tq C.hx C.hb (C.hk.2.2.2.2.2.2.2.1.2.2.kept fun a ha _ => C.old.2 a ha) (gS_of C h1 h2 h3) hin rfl d h
theorem g_fldB (C : GC K own cc nL rk tb) {index : Nat} {ref : String} (hl : Cond.fieldLink own index ref "value" "I" ∈ lw_all) (hs : ref = RJ23) (d : decode cc pc = .ok (.getfield index, 3)) {r : Option Nat} {x : Int32} (hv : gbv S r = some x) (kk : G K nL S (pc + 3) L (vI x :: st)) : G K nL S pc L (vR r :: st) := by
  unfold gbv at hv
  split at hv
  · next q y hc =>
    cases hv
    obtain ⟨rfl, hq⟩ := gcell_some hc
    refine ⟨kk.1, fun lv H locs cells slots ls h1 h2 h3 h4 h5 => ?_⟩
    have C := C lv
    obtain ⟨cell, q1, q2, q3, q4, q5⟩ := C.hi.1 S H q _ h1 hq
    obtain ⟨hS, hfc, kC, hkC, hkind⟩ := C.kk.1 16 _ (rfl : g_cl[16]? = some (RJ23, TJ23, 1))
    obtain ⟨cf, kf, fi, f, hi, hsl⟩ := hS 0 (by decide)
    refine W.getf (v := .int x) C.hx C.hb C.hown (C.hts _ hl) (by rw [hs]; exact hi) (u_facts hfc hkC (u_lays C.hts gk_J23.2.1 (k := 0) Nat.zero_lt_one) hi).1 q1 q4 (by rw [hsl]; exact q5) rfl rfl d (kk.2 lv H locs cells slots ls h1 h2 h3 h4 h5)
  · next q c fs hc =>
    split at hv
    · next e =>
      subst e
      obtain ⟨rfl, hq⟩ := gcell_some hc
      exact g_fld C gk_J23 (k := 0) (by decide) hl (Or.inl hs) d (gI_v (by rw [gI_e hq]; exact hv)) kk
    · cases hv
  · cases hv
end GBX
theorem gdf_J23 : ∀ j, j < 1 → defaultValue (tyJ23 j) = vp_V (([vI 0] : List TV).map tv) j := fun j hj => by
  match j, hj with
  | 0, _ => rfl
  | k + 1, hj => omega
section GEW
variable {K : KT} {own : String} {cc : ByteArray} {nL rk : Nat} {tb : List ExceptionTableEntry} {S : St} {pc : Nat} {L : List (Nat × TV)} {st rest : List TV} {res : Option TV ⊕ String}
theorem g_cFW (C : GC K own cc nL rk tb) {x y : MethodName} {b : ByteArray} {mL rk' n index count c N : Nat} {rt : Option FieldType} {hh : List (Nat × Nat × Nat × Nat)} {Cn : String} {T : u_T} (hc : g_cl[c]? = some (Cn, T, N)) (h1 : Cond.methodLink own index x ∈ lw_all) (h2 : Cond.instanceMethod y ∈ lw_all) (h3 : Cond.selects Cn x y ∈ lw_all) (h4 : Cond.initialized y.cls ∈ lw_all) (h5 : Cond.codeWith y b mL rt hh ∈ lw_all) (hF : (Cn, x, y) ∈ g_faces) (hy : x.cls ≠ "java/lang/invoke/MethodHandle" ∧ x.cls ≠ "java/lang/invoke/VarHandle" ∧ (parseMethodDescriptor x.desc).map (fun d => d.parameters.length) = some n) (hrk : rk' + 1 ≤ rk) (hmL : mL ≤ 21) (d : decode cc pc = .ok (.invokeinterface index count, 5)) {As : List TV} {r : Option Nat} (hn : As.length = n) (hst : st = As.reverse ++ vR r :: rest) (hsm : gsm rest ≤ 8) (hg : grc S r c = true) {Sb : St}
    (hM : MSW (kΓ K) (kHI K) (kl K) y b mL rt hh rk' S (vR r :: As) res Sb) (kv : ∀ v : Option TV, res = .inl v → G K nL Sb (pc + 5) L (v.toList ++ rest)) (kx : ∀ E, res = .inr E → GX K nL Sb pc L E) : G K nL S pc L st := by
  obtain ⟨q, e0, rfl, -, -⟩ := grc_some hg
  refine g_run5 (args := (Value.ref q :: As.map tv).toArray) C (hM.1 ⟨K⟩) (fun lv H locs cells slots ls g1 g3 g4 g5 l1 l2 => ?_) kv kx
  have C := C lv
  subst hst
  have r1 := C.rc
  have r2 := C.rs
  have hM1 := hM.1 ⟨K⟩
  refine vx_runFW (As := As.map tv) (rest := rest.map tv) (C.kk.1 c _ hc).2 (CFix C) hM.2 (va_cwFW n C.hts (fun w hw => ?_) rfl rfl rfl (C.hk.2.2.2.1 _ hF) hy (C_R C hrk hmL)) ⟨MPc_blind _ _ _ _, grc_recv C hc hg g1, C_pre C g1⟩ rfl (by rw [List.length_map]; exact hn) g5.1 ?_ (gsm_room hsm) d ⟨by omega, by omega⟩
  · refine (lw_app (a := [.methodLink own index x, .selects Cn x y, .instanceMethod y, .initialized y.cls]) ?_ (lw_methW h5)) w hw
    simp only [List.forall_mem_cons]
    exact ⟨h1, h3, h2, h4, fun _ h => nomatch h⟩
  · show ((As.reverse ++ vR (some q) :: rest).map tv) = _
    rw [List.map_append, List.map_reverse]
    rfl
theorem g_cSW (C : GC K own cc nL rk tb) {y : MethodName} {b : ByteArray} {mL rk' n index : Nat} {rt : Option FieldType} {hh : List (Nat × Nat × Nat × Nat)} (h1 : Cond.methodLink own index y ∈ lw_all) (h2 : Cond.static y ∈ lw_all) (h3 : Cond.initialized y.cls ∈ lw_all) (h5 : Cond.codeWith y b mL rt hh ∈ lw_all) (hy : y.cls ≠ "java/lang/invoke/MethodHandle" ∧ y.cls ≠ "java/lang/invoke/VarHandle" ∧ (parseMethodDescriptor y.desc).map (fun d => d.parameters.length) = some n) (hrk : rk' + 1 ≤ rk) (hmL : mL ≤ 21) (d : decode cc pc = .ok (.invokestatic index, 3)) {As : List TV} (hn : As.length = n) (hst : st = As.reverse ++ rest) (hsm : gsm rest ≤ 8) {Sb : St}
    (hM : MSW (kΓ K) (kHI K) (kl K) y b mL rt hh rk' S As res Sb) (kv : ∀ v : Option TV, res = .inl v → G K nL Sb (pc + 3) L (v.toList ++ rest)) (kx : ∀ E, res = .inr E → GX K nL Sb pc L E) : G K nL S pc L st := by
  refine g_run3 (args := (As.map tv).toArray) C (hM.1 ⟨K⟩) (fun lv H locs cells slots ls g1 g3 g4 g5 l1 l2 => ?_) kv kx
  have C := C lv
  subst hst
  have r1 := C.rc
  have r2 := C.rs
  have hM1 := hM.1 ⟨K⟩
  refine vx_runSX (As := As.map tv) (rest := rest.map tv) (CFix C) hM.2 (vx_cwSW n C.hts (lw_SW h1 h2 h3 h5) rfl rfl rfl hy (C_R C hrk hmL)) ⟨MPc_blind _ _ _ _, C_pre C g1⟩ rfl (by rw [List.length_map]; exact hn) g5.1 ?_ (gsm_room hsm) d ⟨by omega, by omega⟩
  show ((As.reverse ++ rest).map tv) = _
  rw [List.map_append, List.map_reverse]
theorem g_cFW_n (C : GC K own cc nL rk tb) {x y : MethodName} {b : ByteArray} {mL rk' n index count c N : Nat} {rt : Option FieldType} {hh : List (Nat × Nat × Nat × Nat)} {Cn : String} {T : u_T} (hc : g_cl[c]? = some (Cn, T, N)) (h1 : Cond.methodLink own index x ∈ lw_all) (h2 : Cond.instanceMethod y ∈ lw_all) (h3 : Cond.selects Cn x y ∈ lw_all) (h4 : Cond.initialized y.cls ∈ lw_all) (h5 : Cond.codeWith y b mL rt hh ∈ lw_all) (hF : (Cn, x, y) ∈ g_faces) (hy : x.cls ≠ "java/lang/invoke/MethodHandle" ∧ x.cls ≠ "java/lang/invoke/VarHandle" ∧ (parseMethodDescriptor x.desc).map (fun d => d.parameters.length) = some n) (hrk : rk' + 1 ≤ rk) (hmL : mL ≤ 21) (d : decode cc pc = .ok (.invokeinterface index count, 5)) {As : List TV} {r : Option Nat} (hn : As.length = n) (hst : st = As.reverse ++ vR r :: rest) (hsm : gsm rest ≤ 8) (hg : grc S r c = true) {Sb : St} (hM : MSW (kΓ K) (kHI K) (kl K) y b mL rt hh rk' S (vR r :: As) (.inl none) Sb) (kk : G K nL Sb (pc + 5) L rest) : G K nL S pc L st := g_cFW C hc h1 h2 h3 h4 h5 hF hy hrk hmL d hn hst hsm hg hM (fun w hw => by cases hw; exact kk) (fun E hE => by cases hE)
theorem g_cSW_v (C : GC K own cc nL rk tb) {y : MethodName} {b : ByteArray} {mL rk' n index : Nat} {rt : Option FieldType} {hh : List (Nat × Nat × Nat × Nat)} (h1 : Cond.methodLink own index y ∈ lw_all) (h2 : Cond.static y ∈ lw_all) (h3 : Cond.initialized y.cls ∈ lw_all) (h5 : Cond.codeWith y b mL rt hh ∈ lw_all) (hy : y.cls ≠ "java/lang/invoke/MethodHandle" ∧ y.cls ≠ "java/lang/invoke/VarHandle" ∧ (parseMethodDescriptor y.desc).map (fun d => d.parameters.length) = some n) (hrk : rk' + 1 ≤ rk) (hmL : mL ≤ 21) (d : decode cc pc = .ok (.invokestatic index, 3)) {As : List TV} (hn : As.length = n) (hst : st = As.reverse ++ rest) (hsm : gsm rest ≤ 8) {Sb : St} {v : TV} (hM : MSW (kΓ K) (kHI K) (kl K) y b mL rt hh rk' S As (.inl (some v)) Sb) (kk : G K nL Sb (pc + 3) L (v :: rest)) : G K nL S pc L st := g_cSW C h1 h2 h3 h5 hy hrk hmL d hn hst hsm hM (fun w hw => by cases hw; exact kk) (fun E hE => by cases hE)
/-- a throw that is caught here -/
theorem g_catch (C : GC K own cc nL rk tb) {E name : String} (pre : List ExceptionTableEntry) (x : ExceptionTableEntry) (suf : List ExceptionTableEntry) (hsplit : tb = pre ++ x :: suf) (hpass : ∀ z ∈ pre, covers z pc = false ∨ (z.catchType ≠ 0 ∧ ∃ nm : String, Cond.classLink own z.catchType nm ∈ lw_all ∧ (kLv K → va_Nc E nm (ks K)))) (hx : covers x pc = true) (h0 : x.catchType ≠ 0) (hlink : Cond.classLink own x.catchType name ∈ lw_all) (hcast : Cond.castable E name ∈ lw_tbl) (kk : ∀ q : Nat, G K nL S x.handlerPc L [vR (some q)]) : GX K nL S pc L E := by
  refine ⟨(kk 0).1, fun lv H locs cells slots ls rest ce q h1 h2 h3 h4 h5 g1 g2 g3 => ?_⟩
  have C := C lv
  exact vx_catch C.hown pre x suf (by rw [C.tab]; exact hsplit) (fun z hz => (hpass z hz).imp id fun ⟨a, nm, b, c⟩ => ⟨a, nm, C.hts _ b, c lv⟩) hx h0 (C.hts _ hlink) (va_Nw.use rfl (C.nw hcast rfl)) g1 g2 g3 ((kk q).2 lv H locs cells slots ls h1 h2 h3 h4 h5)
end GEW
/-! arrays of ints, booleans, chars -/
def sI (S : St) (r : Option Nat) (k : Nat) (i x : Int32) : Option St := if gfit (g_ty k) x = true then sV S r k i (vI x) else none
section GIA
variable {K : KT} {own : String} {cc : ByteArray} {nL rk : Nat} {tb : List ExceptionTableEntry} {S : St} {pc : Nat} {L : List (Nat × TV)} {st : List TV}
theorem g_ialdV (C : GC K own cc nL rk tb) (d : decode cc pc = .ok (.iaload, 1)) {r : Option Nat} {i : Int32} {x : Int32} (hv : aI S r 0 i = some x) (kk : G K nL S (pc + 1) L (vI x :: st)) : G K nL S pc L (vI i :: vR r :: st) := by
  obtain ⟨v, hv, hx⟩ := Option.bind_eq_some_iff.mp hv
  cases asI_some hx
  obtain ⟨q, n, f, rfl, hq, hin, hf⟩ := aV_some hv
  refine ⟨kk.1, fun lv H locs cells slots ls h1 h2 h3 h4 h5 => ?_⟩
  have C := C lv
  exact W.iald (v := .int x) C.hx C.hb (gAt_arr (C.hi.1 S H q _ h1 hq) (by decide)) ((g_tyK C 0 (by decide)).1 n _) (fun q => by cases q) (by rw [arrV_size]; exact hin) (by rw [arrV_read _ _ (Nat.not_le.mp fun q => hin (Or.inr q)), hf]; rfl) rfl rfl d (kk.2 lv H locs cells slots ls h1 h2 h3 h4 h5)
theorem g_zaldV (C : GC K own cc nL rk tb) (d : decode cc pc = .ok (.baload, 1)) {r : Option Nat} {i : Int32} {x : Int32} (hv : aI S r 1 i = some x) (kk : G K nL S (pc + 1) L (vI x :: st)) : G K nL S pc L (vI i :: vR r :: st) := by
  obtain ⟨v, hv, hx⟩ := Option.bind_eq_some_iff.mp hv
  cases asI_some hx
  obtain ⟨q, n, f, rfl, hq, hin, hf⟩ := aV_some hv
  refine ⟨kk.1, fun lv H locs cells slots ls h1 h2 h3 h4 h5 => ?_⟩
  have C := C lv
  exact W.zald (v := .int x) C.hx C.hb (gAt_arr (C.hi.1 S H q _ h1 hq) (by decide)) ((g_tyK C 1 (by decide)).1 n _) (fun q => by cases q) (by rw [arrV_size]; exact hin) (by rw [arrV_read _ _ (Nat.not_le.mp fun q => hin (Or.inr q)), hf]; rfl) rfl rfl d (kk.2 lv H locs cells slots ls h1 h2 h3 h4 h5)
theorem g_caldV (C : GC K own cc nL rk tb) (d : decode cc pc = .ok (.caload, 1)) {r : Option Nat} {i : Int32} {x : Int32} (hv : aI S r 2 i = some x) (kk : G K nL S (pc + 1) L (vI x :: st)) : G K nL S pc L (vI i :: vR r :: st) := by
  obtain ⟨v, hv, hx⟩ := Option.bind_eq_some_iff.mp hv
  cases asI_some hx
  obtain ⟨q, n, f, rfl, hq, hin, hf⟩ := aV_some hv
  refine ⟨kk.1, fun lv H locs cells slots ls h1 h2 h3 h4 h5 => ?_⟩
  have C := C lv
  exact W.cald (v := .int x) C.hx C.hb (gAt_arr (C.hi.1 S H q _ h1 hq) (by decide)) ((g_tyK C 2 (by decide)).1 n _) (fun q => by cases q) (by rw [arrV_size]; exact hin) (by rw [arrV_read _ _ (Nat.not_le.mp fun q => hin (Or.inr q)), hf]; rfl) rfl rfl d (kk.2 lv H locs cells slots ls h1 h2 h3 h4 h5)
theorem g_iastV (C : GC K own cc nL rk tb) (d : decode cc pc = .ok (.iastore, 1)) {r : Option Nat} {i : Int32} {x : Int32} {S' : St} (hv : sI S r 0 i x = some S') (kk : G K nL S' (pc + 1) L st) : G K nL S pc L (vI x :: vI i :: vR r :: st) := by
  unfold sI at hv
  split at hv
  case isFalse => cases hv
  next hfit =>
  obtain ⟨q, n, f, rfl, hq, hin, rfl⟩ := sV_some hv
  refine ⟨kk.1, fun lv H locs cells slots ls h1 h2 h3 h4 h5 => ?_⟩
  have C := C lv
  have hn := (gfit_ok hfit).1
  refine W.iast C.hx C.hb (gAt_arr (C.hi.1 S H q _ h1 hq) (by decide)) ((g_tyK C 0 (by decide)).1 n _) (fun q => by cases q) (by rw [arrV_size]; exact hin) rfl rfl d fun H' e1 e2 e3 => g_astG C lv hq (by decide) hin kk h1 h2 h3 h4 h5 H' ?_ e2 e3
  rw [e1]
  simp only [g_ty] at hn
  first | rw [hn]; rfl | rfl
theorem g_zastV (C : GC K own cc nL rk tb) (d : decode cc pc = .ok (.bastore, 1)) {r : Option Nat} {i : Int32} {x : Int32} {S' : St} (hv : sI S r 1 i x = some S') (kk : G K nL S' (pc + 1) L st) : G K nL S pc L (vI x :: vI i :: vR r :: st) := by
  unfold sI at hv
  split at hv
  case isFalse => cases hv
  next hfit =>
  obtain ⟨q, n, f, rfl, hq, hin, rfl⟩ := sV_some hv
  refine ⟨kk.1, fun lv H locs cells slots ls h1 h2 h3 h4 h5 => ?_⟩
  have C := C lv
  have hn := (gfit_ok hfit).1
  refine W.zast C.hx C.hb (gAt_arr (C.hi.1 S H q _ h1 hq) (by decide)) ((g_tyK C 1 (by decide)).1 n _) (fun q => by cases q) (by rw [arrV_size]; exact hin) rfl rfl d fun H' e1 e2 e3 => g_astG C lv hq (by decide) hin kk h1 h2 h3 h4 h5 H' ?_ e2 e3
  rw [e1]
  simp only [g_ty] at hn
  first | rw [hn]; rfl | rfl
theorem g_castV (C : GC K own cc nL rk tb) (d : decode cc pc = .ok (.castore, 1)) {r : Option Nat} {i : Int32} {x : Int32} {S' : St} (hv : sI S r 2 i x = some S') (kk : G K nL S' (pc + 1) L st) : G K nL S pc L (vI x :: vI i :: vR r :: st) := by
  unfold sI at hv
  split at hv
  case isFalse => cases hv
  next hfit =>
  obtain ⟨q, n, f, rfl, hq, hin, rfl⟩ := sV_some hv
  refine ⟨kk.1, fun lv H locs cells slots ls h1 h2 h3 h4 h5 => ?_⟩
  have C := C lv
  have hn := (gfit_ok hfit).1
  refine W.cast C.hx C.hb (gAt_arr (C.hi.1 S H q _ h1 hq) (by decide)) ((g_tyK C 2 (by decide)).1 n _) (fun q => by cases q) (by rw [arrV_size]; exact hin) rfl rfl d fun H' e1 e2 e3 => g_astG C lv hq (by decide) hin kk h1 h2 h3 h4 h5 H' ?_ e2 e3
  rw [e1]
  simp only [g_ty] at hn
  first | rw [hn]; rfl | rfl
end GIA
/-- a call that may throw, caught here -/
def cbn {α β : Type} (o : Option ((α ⊕ String) × St)) (g : String → St → Option β) (f : α → St → Option β) : Option β := match o with
  | some (.inl a, S) => f a S
  | some (.inr E, S) => g E S
  | none => none
theorem cbn_some {α β : Type} {o : Option ((α ⊕ String) × St)} {g : String → St → Option β} {f : α → St → Option β} {z : β} (h : cbn o g f = some z) : (∃ E S, o = some (.inr E, S) ∧ g E S = some z) ∨ ∃ a S, o = some (.inl a, S) ∧ f a S = some z := by
  cases o with
  | none => cases h
  | some p =>
    obtain ⟨a | E, S⟩ := p
    · exact Or.inr ⟨a, S, rfl, h⟩
    · exact Or.inl ⟨E, S, rfl, h⟩
