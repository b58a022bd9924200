/-! contracts and calls of the G layer -/
def RQ (HI : St → Heap → Prop) (res : Option TV ⊕ String) (S' : St) : Array Value → State → Outcome → State → Prop := fun _ _ o t => (∃ v, res = .inl v ∧ o = .returned (v.map tv)) ∧ HI S' t.heap
def RX (HI : St → Heap → Prop) (res : Option TV ⊕ String) (S' : St) : String → State → State → Prop := fun E _ t => res = .inr E ∧ HI S' t.heap
def MPc (Γ : GG) (HI : St → Heap → Prop) (S : St) (args : List TV) : Array Value → State → Prop := va_Pc (args.map tv) (fun U => HI S U.heap ∧ KK Γ U)
def MRm (rk : Nat) (S S' : St) : Room := { frames := rk, cells := S'.2.1 - S.2.1, slots := S'.2.2.1 - S.2.2.1, locals := 40 * rk }
/-- a method's contract: from S, with these arguments, it answers res and leaves S' -/
def MS (Γ : GG) (HI : St → Heap → Prop) (l : Launch) (y : MethodName) (b : ByteArray) (mL : Nat) (rt : Option FieldType) (rk : Nat) (S : St) (args : List TV) (res : Option TV ⊕ String) (S' : St) : Prop :=
  (Nonempty KT → S.2.1 ≤ S'.2.1 ∧ S.2.2.1 ≤ S'.2.2.1) ∧ vx_Met l y (ws_ y b mL rt) (MRm rk S S') (MPc Γ HI S args) (RQ HI res S') (RX HI res S') (S'.2.1 - S.2.1) (S'.2.2.1 - S.2.2.1) (gA Γ)
def MSW (Γ : GG) (HI : St → Heap → Prop) (l : Launch) (y : MethodName) (b : ByteArray) (mL : Nat) (rt : Option FieldType) (hh : List (Nat × Nat × Nat × Nat)) (rk : Nat) (S : St) (args : List TV) (res : Option TV ⊕ String) (S' : St) : Prop :=
  (Nonempty KT → S.2.1 ≤ S'.2.1 ∧ S.2.2.1 ≤ S'.2.2.1) ∧ vx_Met l y (wsW_ y b mL rt hh) (MRm rk S S') (MPc Γ HI S args) (RQ HI res S') (RX HI res S') (S'.2.1 - S.2.1) (S'.2.2.1 - S.2.2.1) (gA Γ)
theorem MPc_blind (Γ : GG) (HI : St → Heap → Prop) (S : St) (args : List TV) : FrameBlind (MPc Γ HI S args) := fun a U g mk h => ⟨h.1, h.2.1, KK_warm (U := U.calling g mk a) (State.WarmedH.refl U) h.2.2⟩
/-- what the end of a method's walk is to show -/
def GQ (K : KT) (rt : Option FieldType) (res : Option TV ⊕ String) (S' : St) : Prop := kS1 K = S' ∧ (kLv K → kQ K = vx_MQ (kb K) (RQ (kHI K) res S') (RX (kHI K) res S') (ka K) (ks K) (S'.2.1 - (kS0 K).2.1) (S'.2.2.1 - (kS0 K).2.2.1) (gA (kΓ K)) ∧ (kme K).sig.returnType = rt)
/-- an exception of class E thrown at pc, with S -/
def GX (K : KT) (nL : Nat) (S : St) (pc : Nat) (L : List (Nat × TV)) (E : String) : Prop :=
  (S.2.1 ≤ (kS1 K).2.1 ∧ S.2.2.1 ≤ (kS1 K).2.2.1) ∧ (kLv K → ∀ (H : Heap) (locs : List Loc) (cells slots : Nat) (ls : Array Slot) (rest : List Value) (ce : Cell) (q : Addr), kHI K S H → (∀ z ∈ locs, gb0 (kΓ K) ≤ z.base) → cells + (kS0 K).2.1 = S.2.1 → slots + (kS0 K).2.2.1 = S.2.2.1 → lv_has ls nL (L.map tvp) → H[q]? = some ce → ce.vm = .none → (ks K).vm.findClass E = some ce.cls →
    vx_W (kp K) (kl K) (ke K) (kR K) (ks K) (km K) (ka K) (kb K) (kme K) (kc K) H locs cells slots (kQ K) (F0 (km K) pc ls rest) q)
section GE
variable {K : KT} {own : String} {cc : ByteArray} {nL rk : Nat} {tb : List ExceptionTableEntry} {S S1 : St} {pc : Nat} {L : List (Nat × TV)} {st rest : List TV} {ρ : Type} {z : ρ} {res : Option TV ⊕ String} {rt : FieldType}
theorem g_ret0 (C : GC K own cc nL rk tb) {x : Int32} (Qh : GQ K (some rt) (.inl (some (vI x))) S) (hg : gfit rt x = true) (d : decode cc pc = .ok (.ireturn, 1)) : G K nL S pc L [vI x] := by
  obtain ⟨e1, e2⟩ := Qh
  refine ⟨by rw [e1]; exact ⟨Nat.le_refl _, Nat.le_refl _⟩, fun lv H locs cells slots ls h1 h2 h3 h4 h5 => ?_⟩
  obtain ⟨e2, hr⟩ := e2 lv
  have C := C lv
  rw [e2]
  have c1 : cells = S.2.1 - (kS0 K).2.1 := by omega
  have c2 : slots = S.2.2.1 - (kS0 K).2.2.1 := by omega
  subst c1; subst c2
  exact vx_ret (W.zret C.hx C.hb hr (gfit_ok hg).1 (fun t ht hW => ⟨⟨_, rfl, rfl⟩, by rw [ht]; exact h1⟩) h2 d C.locks)
theorem g_aret0 (C : GC K own cc nL rk tb) {x : Option Nat} (Qh : GQ K (some rt) (.inl (some (vR x))) S) (hrt : (∃ n, rt = .object n) ∨ ∃ t, rt = .array t) (d : decode cc pc = .ok (.areturn, 1)) : G K nL S pc L [vR x] := by
  obtain ⟨e1, e2⟩ := Qh
  refine ⟨by rw [e1]; exact ⟨Nat.le_refl _, Nat.le_refl _⟩, fun lv H locs cells slots ls h1 h2 h3 h4 h5 => ?_⟩
  obtain ⟨e2, hr⟩ := e2 lv
  have C := C lv
  rw [e2]
  have c1 : cells = S.2.1 - (kS0 K).2.1 := by omega
  have c2 : slots = S.2.2.1 - (kS0 K).2.2.1 := by omega
  subst c1; subst c2
  exact vx_ret (W.aret C.hx C.hb hr hrt (by cases x with | none => exact Or.inl rfl | some x => exact Or.inr ⟨x, rfl⟩) (fun t ht hW => ⟨⟨_, rfl, rfl⟩, by rw [ht]; exact h1⟩) h2 d C.locks)
theorem g_vret0 (C : GC K own cc nL rk tb) (Qh : GQ K none (.inl none) S) (d : decode cc pc = .ok (.return_, 1)) : G K nL S pc L [] := by
  obtain ⟨e1, e2⟩ := Qh
  refine ⟨by rw [e1]; exact ⟨Nat.le_refl _, Nat.le_refl _⟩, fun lv H locs cells slots ls h1 h2 h3 h4 h5 => ?_⟩
  obtain ⟨e2, hr⟩ := e2 lv
  have C := C lv
  rw [e2]
  have c1 : cells = S.2.1 - (kS0 K).2.1 := by omega
  have c2 : slots = S.2.2.1 - (kS0 K).2.2.1 := by omega
  subst c1; subst c2
  exact vx_ret (W.vret C.hx C.hb hr (fun t ht hW => ⟨⟨_, rfl, rfl⟩, by rw [ht]; exact h1⟩) h2 d C.locks)
/-! what dens end with -/
def rtI {ε : Type} (inj : Int32 → ε) (ty : FieldType) (x : Int32) (S : St) : Option (ε × St) := if gfit ty x = true then some (inj x, S) else none
theorem g_iret (C : GC K own cc nL rk tb) {x r : Int32} (Qh : GQ K (some rt) (.inl (some (vI r))) S1) (hd : rtI id rt x S = some (r, S1)) (d : decode cc pc = .ok (.ireturn, 1)) : G K nL S pc L [vI x] := by
  unfold rtI at hd
  split at hd
  · next h => cases hd; exact g_ret0 C Qh h d
  · cases hd
abbrev resI : Int32 ⊕ String → Option TV ⊕ String
  | .inl x => .inl (some (vI x))
  | .inr E => .inr E
abbrev resR : Option Nat ⊕ String → Option TV ⊕ String
  | .inl x => .inl (some (vR x))
  | .inr E => .inr E
abbrev resV : Unit ⊕ String → Option TV ⊕ String
  | .inl _ => .inl none
  | .inr E => .inr E
theorem g_iretT (C : GC K own cc nL rk tb) {x : Int32} {r : Int32 ⊕ String} (Qh : GQ K (some rt) (resI r) S1) (hd : rtI Sum.inl rt x S = some (r, S1)) (d : decode cc pc = .ok (.ireturn, 1)) : G K nL S pc L [vI x] := by
  unfold rtI at hd
  split at hd
  · next h => cases hd; exact g_ret0 C Qh h d
  · cases hd
theorem g_aret (C : GC K own cc nL rk tb) {x r : Option Nat} (Qh : GQ K (some rt) (.inl (some (vR r))) S1) (hrt : (∃ n, rt = .object n) ∨ ∃ t, rt = .array t) (hd : some (x, S) = some (r, S1)) (d : decode cc pc = .ok (.areturn, 1)) : G K nL S pc L [vR x] := by
  cases hd
  exact g_aret0 C Qh hrt d
theorem g_aretT (C : GC K own cc nL rk tb) {x : Option Nat} {r : Option Nat ⊕ String} (Qh : GQ K (some rt) (resR r) S1) (hrt : (∃ n, rt = .object n) ∨ ∃ t, rt = .array t) (hd : some (Sum.inl x, S) = some (r, S1)) (d : decode cc pc = .ok (.areturn, 1)) : G K nL S pc L [vR x] := by
  cases hd
  exact g_aret0 C Qh hrt d
theorem g_vret (C : GC K own cc nL rk tb) {u r : Unit} (Qh : GQ K none (.inl none) S1) (hd : some (u, S) = some (r, S1)) (d : decode cc pc = .ok (.return_, 1)) : G K nL S pc L [] := by
  cases hd
  exact g_vret0 C Qh d
theorem g_vretT (C : GC K own cc nL rk tb) {u : Unit} {r : Unit ⊕ String} (Qh : GQ K none (resV r) S1) (hd : some (Sum.inl u, S) = some (r, S1)) (d : decode cc pc = .ok (.return_, 1)) : G K nL S pc L [] := by
  cases hd
  exact g_vret0 C Qh d
/-- not caught here -/
theorem g_out (C : GC K own cc nL rk []) {E : String} {rt : Option FieldType} (Qh : GQ K rt (.inr E) S) : GX K nL S pc L E := by
  obtain ⟨e1, e2⟩ := Qh
  refine ⟨by rw [e1]; exact ⟨Nat.le_refl _, Nat.le_refl _⟩, fun lv H locs cells slots ls rest ce q h1 h2 h3 h4 h5 g1 g2 g3 => ?_⟩
  obtain ⟨e2, -⟩ := e2 lv
  have C := C lv
  rw [e2]
  exact vx_out (fun x hx => by rw [C.tab] at hx; cases hx) C.locks g1 g2 g3 (fun t ht hA => ⟨rfl, by rw [ht]; exact h1⟩) h2 (by omega) (by omega)
/-! the machine's end of a call, at the caller's next instruction -/
theorem g_run3 (C : GC K own cc nL rk tb) {Sb : St} {args : Array Value} (hle : S.2.1 ≤ Sb.2.1 ∧ S.2.2.1 ≤ Sb.2.2.1)
    (hr : kLv K → ∀ (H : Heap) (locs : List Loc) (cells slots : Nat) (ls : Array Slot), kHI K S H → cells + (kS0 K).2.1 = S.2.1 → slots + (kS0 K).2.2.1 = S.2.2.1 → lv_has ls nL (L.map tvp) → Sb.2.1 ≤ (kS1 K).2.1 → Sb.2.2.1 ≤ (kS1 K).2.2.1 → vx_Run (kp K) (kl K) (ke K) (kR K) (ks K) (km K) (ka K) (kb K) (kme K) (kc K) H locs cells slots (Sb.2.1 - S.2.1) (Sb.2.2.1 - S.2.2.1) (F0 (km K) pc ls (st.map tv)) (rest.map tv) (RQ (kHI K) res Sb args) (RX (kHI K) res Sb) (gA (kΓ K)))
    (kv : ∀ v : Option TV, res = .inl v → G K nL Sb (pc + 3) L (v.toList ++ rest)) (kx : ∀ E, res = .inr E → GX K nL Sb pc L E) : G K nL S pc L st := by
  have hm : Sb.2.1 ≤ (kS1 K).2.1 ∧ Sb.2.2.1 ≤ (kS1 K).2.2.1 := by
    rcases res with v | E
    · exact (kv v rfl).1
    · exact (kx E rfl).1
  refine ⟨⟨by omega, by omega⟩, fun lv H locs cells slots ls h1 h2 h3 h4 h5 => ?_⟩
  intro T hT X
  rcases hr lv H locs cells slots ls h1 h3 h4 h5 hm.1 hm.2 T hT X with ⟨v, st₀, t, T', L', h0, X', hL, e1, e2, ⟨⟨v', ev, eo⟩, hh⟩, go⟩ | ⟨q, st₀, t, T', L', E, ce, h0, X', hL, e1, e2, ⟨ex, hh⟩, hce, hcv, hcl, go⟩
  · cases eo
    have k := (kv v' ev).2 lv T'.heap (locs ++ L') _ _ ls (by rw [e1]; exact hh) (fun y hy => (List.mem_append.mp hy).elim (h2 y) (hL y)) (by omega) (by omega) h5 T' rfl X'
    obtain ⟨t2, a1, b1⟩ := k
    refine ⟨t2, go t2 ?_, b1⟩
    have e9 : (v'.toList ++ rest).map tv = (v'.map tv).toList ++ rest.map tv := by cases v' <;> rfl
    rw [e9] at a1
    exact a1
  · have k := (kx E ex).2 lv T'.heap (locs ++ L') _ _ ls (rest.map tv) ce q (by rw [e1]; exact hh) (fun y hy => (List.mem_append.mp hy).elim (h2 y) (hL y)) (by omega) (by omega) h5 (by rw [e1]; exact hce) hcv hcl T' rfl X'
    obtain ⟨t2, a1, b1⟩ := k
    exact ⟨t2, go.trans a1, b1⟩
theorem g_run5 (C : GC K own cc nL rk tb) {Sb : St} {args : Array Value} (hle : S.2.1 ≤ Sb.2.1 ∧ S.2.2.1 ≤ Sb.2.2.1)
    (hr : kLv K → ∀ (H : Heap) (locs : List Loc) (cells slots : Nat) (ls : Array Slot), kHI K S H → cells + (kS0 K).2.1 = S.2.1 → slots + (kS0 K).2.2.1 = S.2.2.1 → lv_has ls nL (L.map tvp) → Sb.2.1 ≤ (kS1 K).2.1 → Sb.2.2.1 ≤ (kS1 K).2.2.1 → vx_Run5 (kp K) (kl K) (ke K) (kR K) (ks K) (km K) (ka K) (kb K) (kme K) (kc K) H locs cells slots (Sb.2.1 - S.2.1) (Sb.2.2.1 - S.2.2.1) (F0 (km K) pc ls (st.map tv)) (rest.map tv) (RQ (kHI K) res Sb args) (RX (kHI K) res Sb) (gA (kΓ K)))
    (kv : ∀ v : Option TV, res = .inl v → G K nL Sb (pc + 5) L (v.toList ++ rest)) (kx : ∀ E, res = .inr E → GX K nL Sb pc L E) : G K nL S pc L st := by
  have hm : Sb.2.1 ≤ (kS1 K).2.1 ∧ Sb.2.2.1 ≤ (kS1 K).2.2.1 := by
    rcases res with v | E
    · exact (kv v rfl).1
    · exact (kx E rfl).1
  refine ⟨⟨by omega, by omega⟩, fun lv H locs cells slots ls h1 h2 h3 h4 h5 => ?_⟩
  intro T hT X
  rcases hr lv H locs cells slots ls h1 h3 h4 h5 hm.1 hm.2 T hT X with ⟨v, st₀, t, T', L', h0, X', hL, e1, e2, ⟨⟨v', ev, eo⟩, hh⟩, go⟩ | ⟨q, st₀, t, T', L', E, ce, h0, X', hL, e1, e2, ⟨ex, hh⟩, hce, hcv, hcl, go⟩
  · cases eo
    have k := (kv v' ev).2 lv T'.heap (locs ++ L') _ _ ls (by rw [e1]; exact hh) (fun y hy => (List.mem_append.mp hy).elim (h2 y) (hL y)) (by omega) (by omega) h5 T' rfl X'
    obtain ⟨t2, a1, b1⟩ := k
    refine ⟨t2, go t2 ?_, b1⟩
    have e9 : (v'.toList ++ rest).map tv = (v'.map tv).toList ++ rest.map tv := by cases v' <;> rfl
    rw [e9] at a1
    exact a1
  · have k := (kx E ex).2 lv T'.heap (locs ++ L') _ _ ls (rest.map tv) ce q (by rw [e1]; exact hh) (fun y hy => (List.mem_append.mp hy).elim (h2 y) (hL y)) (by omega) (by omega) h5 (by rw [e1]; exact hce) hcv hcl T' rfl X'
    obtain ⟨t2, a1, b1⟩ := k
    exact ⟨t2, go.trans a1, b1⟩
/-- little on the stack beneath the arguments -/
def gsm (l : List TV) : Nat := match l with
  | [] => 0
  | v :: l => (if gcat1 v = true then 1 else 2) + gsm l
theorem gsm_cat : ∀ l : List TV, ((l.map tv).map fun v => v.category).sum = gsm l
  | [] => rfl
  | v :: l => by
    have h := gsm_cat l
    simp only [List.map_cons, List.sum_cons, gsm, h]
    rcases v with x | r | x
    · rfl
    · cases r <;> rfl
    · rfl
theorem gsm_room {ls : Array Slot} {st' : List Value} (h : gsm rest ≤ 8) : 2 * (F0 (km K) pc ls st').monitorRoom + ((rest.map tv).map fun v => v.category).sum ≤ 8 := lv_room (by rw [gsm_cat]; exact h)
theorem CFix (C : GC0 K own cc nL rk tb) : CallFix (kp K) (km K) (kc K) cc nL (ks K) (ka K) lw_all own := ⟨C.hx, C.hb, C.hml, C.hown, C.hts⟩
theorem C_R (C : GC0 K own cc nL rk tb) {rk' mL : Nat} {Sa Sb : St} (h : rk' + 1 ≤ rk) (hm : mL ≤ 21) : (MRm rk' Sa Sb).frames + 1 ≤ (kR K).frames ∧ 8 + (mL + 11) + (MRm rk' Sa Sb).locals ≤ (kR K).locals := by
  rw [C.fr, C.lo]
  simp only [MRm]
  omega
theorem C_pre (C : GC0 K own cc nL rk tb) {H : Heap} {As : List TV} (h1 : kHI K S H) : ∀ U : State, U.heap = H → (ks K).WarmedH U.vm → MPc (kΓ K) (kHI K) S As (As.map tv).toArray U := fun U hU hW => ⟨rfl, by rw [hU]; exact h1, KK_warm hW C.hk⟩
abbrev okMH (s : String) : Prop := s ≠ "java/lang/invoke/MethodHandle" ∧ s ≠ "java/lang/invoke/VarHandle"
/-- a call through an object of its own class -/
theorem g_cV (C : GC K own cc nL rk tb) {y : MethodName} {b : ByteArray} {mL rk' n index c N : Nat} {rt : Option FieldType} {Cn : String} {T : u_T} (hc : g_cl[c]? = some (Cn, T, N)) (h1 : Cond.methodLink own index y ∈ lw_all) (h2 : Cond.instanceMethod y ∈ lw_all) (h3 : Cond.selects Cn y y ∈ lw_all) (h4 : Cond.initialized Cn ∈ lw_all) (h5 : Cond.code y b mL rt ∈ lw_all) (hy : y.cls = Cn ∧ y.cls ≠ "java/lang/invoke/MethodHandle" ∧ y.cls ≠ "java/lang/invoke/VarHandle" ∧ (parseMethodDescriptor y.desc).map (fun d => d.parameters.length) = some n) (hrk : rk' + 1 ≤ rk) (hmL : mL ≤ 21) (d : decode cc pc = .ok (.invokevirtual index, 3)) {As : List TV} {r : Option Nat} (hn : As.length = n) (hst : st = As.reverse ++ vR r :: rest) (hsm : gsm rest ≤ 8) (hg : grc S r c = true) {Sb : St}
    (hM : MS (kΓ K) (kHI K) (kl K) y b mL rt rk' S (vR r :: As) res Sb) (kv : ∀ v : Option TV, res = .inl v → G K nL Sb (pc + 3) L (v.toList ++ rest)) (kx : ∀ E, res = .inr E → GX K nL Sb pc L E) : G K nL S pc L st := by
  obtain ⟨q, e0, rfl, -, -⟩ := grc_some hg
  refine g_run3 (args := (Value.ref q :: As.map tv).toArray) C (hM.1 ⟨K⟩) (fun lv H locs cells slots ls g1 g3 g4 g5 l1 l2 => ?_) kv kx
  have C := C lv
  subst hst
  have r1 := C.rc
  have r2 := C.rs
  have hM1 := hM.1 ⟨K⟩
  refine vx_runV (As := As.map tv) (rest := rest.map tv) (CFix C) hM.2 (cwV n C.hts (lw_V h1 h2 h3 h4 h5) rfl rfl rfl hy (C_R C hrk hmL)) ⟨MPc_blind _ _ _ _, grc_recv C hc hg g1, C_pre C g1⟩ rfl (by rw [List.length_map]; exact hn) g5.1 ?_ (gsm_room hsm) d ⟨by omega, by omega⟩
  show ((As.reverse ++ vR (some q) :: rest).map tv) = _
  rw [List.map_append, List.map_reverse]
  rfl
/-- a static call -/
theorem g_cS (C : GC K own cc nL rk tb) {y : MethodName} {b : ByteArray} {mL rk' n index : Nat} {rt : Option FieldType} (h1 : Cond.methodLink own index y ∈ lw_all) (h2 : Cond.static y ∈ lw_all) (h3 : Cond.initialized y.cls ∈ lw_all) (h5 : Cond.code y b mL rt ∈ lw_all) (hy : y.cls ≠ "java/lang/invoke/MethodHandle" ∧ y.cls ≠ "java/lang/invoke/VarHandle" ∧ (parseMethodDescriptor y.desc).map (fun d => d.parameters.length) = some n) (hrk : rk' + 1 ≤ rk) (hmL : mL ≤ 21) (d : decode cc pc = .ok (.invokestatic index, 3)) {As : List TV} (hn : As.length = n) (hst : st = As.reverse ++ rest) (hsm : gsm rest ≤ 8) {Sb : St}
    (hM : MS (kΓ K) (kHI K) (kl K) y b mL rt rk' S As res Sb) (kv : ∀ v : Option TV, res = .inl v → G K nL Sb (pc + 3) L (v.toList ++ rest)) (kx : ∀ E, res = .inr E → GX K nL Sb pc L E) : G K nL S pc L st := by
  refine g_run3 (args := (As.map tv).toArray) C (hM.1 ⟨K⟩) (fun lv H locs cells slots ls g1 g3 g4 g5 l1 l2 => ?_) kv kx
  have C := C lv
  subst hst
  have r1 := C.rc
  have r2 := C.rs
  have hM1 := hM.1 ⟨K⟩
  refine vx_runS (As := As.map tv) (rest := rest.map tv) (CFix C) hM.2 (va_cwS n C.hts (lw_S h1 h2 h3 h5) rfl rfl rfl hy (C_R C hrk hmL)) ⟨MPc_blind _ _ _ _, C_pre C g1⟩ rfl (by rw [List.length_map]; exact hn) g5.1 ?_ (gsm_room hsm) d ⟨by omega, by omega⟩
  show ((As.reverse ++ rest).map tv) = _
  rw [List.map_append, List.map_reverse]
/-- a constructor -/
theorem g_cI (C : GC K own cc nL rk tb) {y : MethodName} {b : ByteArray} {mL rk' n index : Nat} (h1 : Cond.methodLink own index y ∈ lw_all) (h2 : Cond.instanceMethod y ∈ lw_all) (h3 : Cond.initialized y.cls ∈ lw_all) (h5 : Cond.code y b mL none ∈ lw_all) (hy1 : y.name = "<init>") (hy : y.cls ≠ "java/lang/invoke/MethodHandle" ∧ y.cls ≠ "java/lang/invoke/VarHandle" ∧ (parseMethodDescriptor y.desc).map (fun d => d.parameters.length) = some n) (hrk : rk' + 1 ≤ rk) (hmL : mL ≤ 21) (d : decode cc pc = .ok (.invokespecial index, 3)) {As : List TV} {r : Option Nat} (hn : As.length = n) (hst : st = As.reverse ++ vR r :: rest) (hsm : gsm rest ≤ 8) (hg : r.isSome = true) {Sb : St}
    (hM : MS (kΓ K) (kHI K) (kl K) y b mL none rk' S (vR r :: As) res Sb) (kv : ∀ v : Option TV, res = .inl v → G K nL Sb (pc + 3) L (v.toList ++ rest)) (kx : ∀ E, res = .inr E → GX K nL Sb pc L E) : G K nL S pc L st := by
  obtain ⟨q, rfl⟩ := Option.isSome_iff_exists.mp hg
  refine g_run3 (args := (Value.ref q :: As.map tv).toArray) C (hM.1 ⟨K⟩) (fun lv H locs cells slots ls g1 g3 g4 g5 l1 l2 => ?_) kv kx
  have C := C lv
  subst hst
  have r1 := C.rc
  have r2 := C.rs
  have hM1 := hM.1 ⟨K⟩
  refine vx_runI (As := As.map tv) (b := q) (rest := rest.map tv) (CFix C) hM.2 (cwI n C.hts (lw_meth h5) rfl rfl rfl (C.hts _ h3) (C.hts _ h1) (C.hts _ h2) hy1 hy (C_R C hrk hmL)) ⟨MPc_blind _ _ _ _, C_pre C (As := vR (some q) :: As) g1⟩ rfl (by rw [List.length_map]; exact hn) g5.1 ?_ (gsm_room hsm) d ⟨by omega, by omega⟩
  show ((As.reverse ++ vR (some q) :: rest).map tv) = _
  rw [List.map_append, List.map_reverse]
  rfl
/-- a private constructor of a nest mate -/
theorem g_cIN (C : GC K own cc nL rk tb) {y : MethodName} {host : String} {b : ByteArray} {mL rk' n index : Nat} (h1 : Cond.methodLinkNest own index y host ∈ lw_tbl) (h2 : Cond.instanceMethod y ∈ lw_all) (h3 : Cond.initialized y.cls ∈ lw_all) (h5 : Cond.code y b mL none ∈ lw_all) (hy1 : y.name = "<init>") (hy : y.cls ≠ "java/lang/invoke/MethodHandle" ∧ y.cls ≠ "java/lang/invoke/VarHandle" ∧ (parseMethodDescriptor y.desc).map (fun d => d.parameters.length) = some n) (hrk : rk' + 1 ≤ rk) (hmL : mL ≤ 21) (d : decode cc pc = .ok (.invokespecial index, 3)) {As : List TV} {r : Option Nat} (hn : As.length = n) (hst : st = As.reverse ++ vR r :: rest) (hsm : gsm rest ≤ 8) (hg : r.isSome = true) {Sb : St}
    (hM : MS (kΓ K) (kHI K) (kl K) y b mL none rk' S (vR r :: As) res Sb) (kv : ∀ v : Option TV, res = .inl v → G K nL Sb (pc + 3) L (v.toList ++ rest)) (kx : ∀ E, res = .inr E → GX K nL Sb pc L E) : G K nL S pc L st := by
  obtain ⟨q, rfl⟩ := Option.isSome_iff_exists.mp hg
  refine g_run3 (args := (Value.ref q :: As.map tv).toArray) C (hM.1 ⟨K⟩) (fun lv H locs cells slots ls g1 g3 g4 g5 l1 l2 => ?_) kv kx
  have C := C lv
  subst hst
  have r1 := C.rc
  have r2 := C.rs
  have hM1 := hM.1 ⟨K⟩
  refine vx_runIN (As := As.map tv) (b := q) (rest := rest.map tv) (CFix C) hM.2 ⟨va_cnB n C.hts (lw_meth h5) rfl rfl rfl (C.nw h1 rfl) (C.hts _ h3) hy (C_R C hrk hmL), hy1, C.hts _ h2⟩ ⟨MPc_blind _ _ _ _, C_pre C (As := vR (some q) :: As) g1⟩ rfl (by rw [List.length_map]; exact hn) g5.1 ?_ (gsm_room hsm) d ⟨by omega, by omega⟩
  show ((As.reverse ++ vR (some q) :: rest).map tv) = _
  rw [List.map_append, List.map_reverse]
  rfl
/-- an inherited method -/
theorem g_cU (C : GC K own cc nL rk tb) {x y : MethodName} {owner : String} {b : ByteArray} {mL rk' n index c N : Nat} {rt : Option FieldType} {Cn : String} {T : u_T} (hc : g_cl[c]? = some (Cn, T, N)) (h1 : Cond.methodLink own index x ∈ lw_all) (h0 : Cond.sameMethod x.cls owner x.name x.desc ∈ lw_all) (h2 : Cond.instanceMethod y ∈ lw_all) (h3 : Cond.selects Cn x y ∈ lw_all) (h4 : Cond.initialized y.cls ∈ lw_all) (h5 : Cond.code y b mL rt ∈ lw_all) (hyx : y = ⟨owner, x.name, x.desc⟩) (hy : owner ≠ "java/lang/invoke/MethodHandle" ∧ owner ≠ "java/lang/invoke/VarHandle" ∧ (parseMethodDescriptor x.desc).map (fun d => d.parameters.length) = some n) (hrk : rk' + 1 ≤ rk) (hmL : mL ≤ 21) (d : decode cc pc = .ok (.invokevirtual index, 3)) {As : List TV} {r : Option Nat} (hn : As.length = n) (hst : st = As.reverse ++ vR r :: rest) (hsm : gsm rest ≤ 8) (hg : grc S r c = true) {Sb : St}
    (hM : MS (kΓ K) (kHI K) (kl K) y b mL rt rk' S (vR r :: As) res Sb) (kv : ∀ v : Option TV, res = .inl v → G K nL Sb (pc + 3) L (v.toList ++ rest)) (kx : ∀ E, res = .inr E → GX K nL Sb pc L E) : G K nL S pc L st := by
  obtain ⟨q, e0, rfl, -, -⟩ := grc_some hg
  refine g_run3 (args := (Value.ref q :: As.map tv).toArray) C (hM.1 ⟨K⟩) (fun lv H locs cells slots ls g1 g3 g4 g5 l1 l2 => ?_) kv kx
  have C := C lv
  subst hst
  have r1 := C.rc
  have r2 := C.rs
  have hM1 := hM.1 ⟨K⟩
  refine vx_runU (As := As.map tv) (rest := rest.map tv) (CFix C) hM.2 (va_cwU n C.hts (fun w hw => ?_) rfl rfl rfl hyx hy (C_R C hrk hmL)) ⟨MPc_blind _ _ _ _, grc_recv C hc hg g1, C_pre C g1⟩ rfl (by rw [List.length_map]; exact hn) g5.1 ?_ (gsm_room hsm) d ⟨by omega, by omega⟩
  · refine (lw_app (a := [.methodLink own index x, .sameMethod x.cls owner x.name x.desc, .selects Cn x y, .instanceMethod y, .initialized y.cls]) ?_ (lw_meth h5)) w hw
    simp only [List.forall_mem_cons]
    exact ⟨h1, h0, h3, h2, h4, fun _ h => nomatch h⟩
  · show ((As.reverse ++ vR (some q) :: rest).map tv) = _
    rw [List.map_append, List.map_reverse]
    rfl
/-- an overriding method: what is named is declared above -/
theorem g_cA (C : GC K own cc nL rk tb) {x y : MethodName} {owner : String} {b : ByteArray} {mL rk' n index c N : Nat} {rt : Option FieldType} {Cn : String} {T : u_T} (hc : g_cl[c]? = some (Cn, T, N)) (h1 : Cond.methodLink own index x ∈ lw_all) (h0 : Cond.sameMethod x.cls owner x.name x.desc ∈ lw_all) (h2 : Cond.instanceMethod y ∈ lw_all) (h3 : Cond.selects Cn x y ∈ lw_all) (h4 : Cond.initialized y.cls ∈ lw_all) (h5 : Cond.code y b mL rt ∈ lw_all) (hdc : Cond.declares ⟨owner, x.name, x.desc⟩ ∈ lw_tbl) (hy : owner ≠ "java/lang/invoke/MethodHandle" ∧ owner ≠ "java/lang/invoke/VarHandle" ∧ (parseMethodDescriptor x.desc).map (fun d => d.parameters.length) = some n) (hrk : rk' + 1 ≤ rk) (hmL : mL ≤ 21) (d : decode cc pc = .ok (.invokevirtual index, 3)) {As : List TV} {r : Option Nat} (hn : As.length = n) (hst : st = As.reverse ++ vR r :: rest) (hsm : gsm rest ≤ 8) (hg : grc S r c = true) {Sb : St}
    (hM : MS (kΓ K) (kHI K) (kl K) y b mL rt rk' S (vR r :: As) res Sb) (kv : ∀ v : Option TV, res = .inl v → G K nL Sb (pc + 3) L (v.toList ++ rest)) (kx : ∀ E, res = .inr E → GX K nL Sb pc L E) : G K nL S pc L st := by
  obtain ⟨q, e0, rfl, -, -⟩ := grc_some hg
  refine g_run3 (args := (Value.ref q :: As.map tv).toArray) C (hM.1 ⟨K⟩) (fun lv H locs cells slots ls g1 g3 g4 g5 l1 l2 => ?_) kv kx
  have C := C lv
  subst hst
  have r1 := C.rc
  have r2 := C.rs
  have hM1 := hM.1 ⟨K⟩
  refine vx_runU (As := As.map tv) (rest := rest.map tv) (CFix C) hM.2 (va_cwA n C.hts (fun w hw => ?_) rfl rfl rfl (C.nw hdc rfl) hy (C_R C hrk hmL)) ⟨MPc_blind _ _ _ _, grc_recv C hc hg g1, C_pre C g1⟩ rfl (by rw [List.length_map]; exact hn) g5.1 ?_ (gsm_room hsm) d ⟨by omega, by omega⟩
  · refine (lw_app (a := [.methodLink own index x, .sameMethod x.cls owner x.name x.desc, .selects Cn x y, .instanceMethod y, .initialized y.cls]) ?_ (lw_meth h5)) w hw
    simp only [List.forall_mem_cons]
    exact ⟨h1, h0, h3, h2, h4, fun _ h => nomatch h⟩
  · show ((As.reverse ++ vR (some q) :: rest).map tv) = _
    rw [List.map_append, List.map_reverse]
    rfl
/-- a call through an interface -/
theorem g_cF (C : GC K own cc nL rk tb) {x y : MethodName} {b : ByteArray} {mL rk' n index count c N : Nat} {rt : Option FieldType} {Cn : String} {T : u_T} (hc : g_cl[c]? = some (Cn, T, N)) (h1 : Cond.methodLink own index x ∈ lw_all) (h2 : Cond.instanceMethod y ∈ lw_all) (h3 : Cond.selects Cn x y ∈ lw_all) (h4 : Cond.initialized y.cls ∈ lw_all) (h5 : Cond.code y b mL rt ∈ lw_all) (hF : (Cn, x, y) ∈ g_faces) (hy : x.cls ≠ "java/lang/invoke/MethodHandle" ∧ x.cls ≠ "java/lang/invoke/VarHandle" ∧ (parseMethodDescriptor x.desc).map (fun d => d.parameters.length) = some n) (hrk : rk' + 1 ≤ rk) (hmL : mL ≤ 21) (d : decode cc pc = .ok (.invokeinterface index count, 5)) {As : List TV} {r : Option Nat} (hn : As.length = n) (hst : st = As.reverse ++ vR r :: rest) (hsm : gsm rest ≤ 8) (hg : grc S r c = true) {Sb : St}
    (hM : MS (kΓ K) (kHI K) (kl K) y b mL rt rk' S (vR r :: As) res Sb) (kv : ∀ v : Option TV, res = .inl v → G K nL Sb (pc + 5) L (v.toList ++ rest)) (kx : ∀ E, res = .inr E → GX K nL Sb pc L E) : G K nL S pc L st := by
  obtain ⟨q, e0, rfl, -, -⟩ := grc_some hg
  refine g_run5 (args := (Value.ref q :: As.map tv).toArray) C (hM.1 ⟨K⟩) (fun lv H locs cells slots ls g1 g3 g4 g5 l1 l2 => ?_) kv kx
  have C := C lv
  subst hst
  have r1 := C.rc
  have r2 := C.rs
  have hM1 := hM.1 ⟨K⟩
  refine vx_runF (As := As.map tv) (rest := rest.map tv) (C.kk.1 c _ hc).2 (CFix C) hM.2 (va_cwF n C.hts (fun w hw => ?_) rfl rfl rfl (C.hk.2.2.2.1 _ hF) hy (C_R C hrk hmL)) ⟨MPc_blind _ _ _ _, grc_recv C hc hg g1, C_pre C g1⟩ rfl (by rw [List.length_map]; exact hn) g5.1 ?_ (gsm_room hsm) d ⟨by omega, by omega⟩
  · refine (lw_app (a := [.methodLink own index x, .selects Cn x y, .instanceMethod y, .initialized y.cls]) ?_ (lw_meth h5)) w hw
    simp only [List.forall_mem_cons]
    exact ⟨h1, h3, h2, h4, fun _ h => nomatch h⟩
  · show ((As.reverse ++ vR (some q) :: rest).map tv) = _
    rw [List.map_append, List.map_reverse]
    rfl
/-- Object's own constructor -/
theorem g_objInit (C : GC K own cc nL rk tb) {idx : Nat} (h1 : Cond.methodLink own idx Lib.objectInit ∈ lw_all) (h2 : Cond.instanceMethod Lib.objectInit ∈ lw_all) (h3 : Cond.code Lib.objectInit ⟨#[0xb1]⟩ 1 none ∈ lw_all) (hrk : 1 ≤ rk) (d : decode cc pc = .ok (.invokespecial idx, 3)) {r : Option Nat} (hg : r.isSome = true) (hsm : gsm st ≤ 8) (k : G K nL S (pc + 3) L st) : G K nL S pc L (vR r :: st) := by
  obtain ⟨q, rfl⟩ := Option.isSome_iff_exists.mp hg
  refine ⟨k.1, fun lv H locs cells slots ls g1 g2 g3 g4 g5 => ?_⟩
  have C := C lv
  exact W.objInit C.hx C.hb C.hown (C.hts _ h1) (C.hts _ h2) (C.hts _ h3) rfl (by rw [C.hml]; exact g5.1) rfl d (by rw [C.fr]; exact hrk) (by have := gsm_room (K := K) (pc := pc) (ls := ls) (st' := tv (vR (some q)) :: st.map tv) hsm; rw [C.lo]; simp only [gsm_cat] at this ⊢; omega) (k.2 lv H locs cells slots ls g1 g2 g3 g4 g5)
/-! the bodies -/
def gl_args : Nat → List TV → List (Nat × TV)
  | _, [] => []
  | i, v :: vs => (i, v) :: gl_args (if gcat1 v = true then i + 1 else i + 2) vs
theorem gl_args_map : ∀ (vs : List TV) (i : Nat), (gl_args i vs).map tvp = lv_args i (vs.map tv)
  | [], _ => rfl
  | v :: vs, i => by
    have h := gl_args_map vs
    simp only [gl_args, List.map_cons, lv_args]
    rcases v with x | r | x
    · rw [← h]; rfl
    · rw [← h]; cases r <;> rfl
    · rw [← h]; rfl
theorem gsm_len : ∀ vs : List TV, (lg_sl (vs.map tv)).length = gsm vs
  | [] => rfl
  | v :: vs => by
    have h := gsm_len vs
    simp only [lg_sl, List.map_cons, List.flatMap_cons, List.length_append, gsm] at h ⊢
    rw [h]
    rcases v with x | r | x
    · rfl
    · cases r <;> rfl
    · rfl
/-- vx_ofW of the kit, for a method of a class that has natives of its own beside it -/
theorem gx_ofW {l : Launch} {y : MethodName} {ws ws' : List Cond} {rm : Room} {Pc : Array Value → State → Prop} {Qc : Array Value → State → Outcome → State → Prop} {XC : String → State → State → Prop} {mc ms : Nat} {free : Addr → Prop} {cc : ByteArray} {maxL : Nat} {ret : Option FieldType}
    (hy : plainFor y = true) (hw : ws = Cond.code y cc maxL ret :: ws')
    (body : ∀ p e s m args below meth c s₁, BodyLoose p l y (headSpec ws rm) cc maxL ret e s m args below meth c s₁ → c.maxLocals = maxL → (∀ x ∈ c.exceptionTable.toList, False) → Pc args s →
      W p l e (headSpec ws rm).room s m args below meth c s.heap [] 0 0 (vx_MQ below Qc XC args s mc ms free) (entryFrame m args maxL)) : vx_Met l y ws rm Pc Qc XC mc ms free := by
  refine MetFree.of_bodySF (code := cc) (maxLocals := maxL) (ret := ret) hy ?_ ?_
  · intro args s m h hn
    obtain ⟨meth, c, h1, h2, h3, h4, h5, h6, -, -⟩ := Cond.code_spec hn (atoms_spec (ws := ws) h _ (by rw [hw]; exact List.mem_cons_self))
    exact ⟨meth, c, h1, h2, h3, h4, h5, h6⟩
  · intro p e s m args below meth c s₁ B hml hP _
    have hh0 : s₁.heap = s.heap := by rw [B.state]; rfl
    have ht : ∀ x ∈ c.exceptionTable.toList, False := by
      obtain ⟨meth9, c9, h1, h2, -, -, -, -, h7, -⟩ := Cond.code_spec B.named (atoms_spec (ws := ws) B.pre _ (by rw [hw]; exact List.mem_cons_self))
      cases Option.some.inj (h1.symm.trans B.method)
      cases Option.some.inj (h2.symm.trans (Stand.of_body B).code)
      intro x hx
      rw [Array.isEmpty_iff.mp h7] at hx
      cases hx
    obtain ⟨t, a1, o, b1, b2, b3⟩ := body p e s m args below meth c s₁ B hml ht hP s₁ hh0 (Stand.of_body B)
    exact ⟨t, o, a1, b1, b2, b3⟩
/-- a method's contract out of the walk of its body -/
theorem MS_of {Γ : GG} {HI : St → Heap → Prop} {l : Launch} {y : MethodName} {b : ByteArray} {mL rk : Nat} {rt : Option FieldType} {S : St} {args : List TV} {res : Option TV ⊕ String} {S' : St} {own : String} (hl : l.stackTraces = false) (hx : HIx Γ HI) (hpl : plainFor y = true) (hown : y.cls = own) (hle : gsm args ≤ mL)
    (body : ∀ K : KT, kΓ K = Γ → kHI K = HI → kl K = l → kS0 K = S → (kLv K → (kme K).name = y.name) → GC K own b mL rk [] → GQ K rt res S' → G K mL S 0 (gl_args 0 args) []) : MS Γ HI l y b mL rt rk S args res S' := by
  have hmono : Nonempty KT → S.2.1 ≤ S'.2.1 ∧ S.2.2.1 ≤ S'.2.2.1 := by
    rintro ⟨K0⟩
    exact (body (Γ, HI, kp K0, l, ke K0, kR K0, ks K0, km K0, ka K0, kb K0, kme K0, kc K0, kQ K0, S, S', False) rfl rfl rfl rfl (fun h => h.elim) (fun h => h.elim) ⟨rfl, fun h => h.elim⟩).1
  refine ⟨hmono, gx_ofW (cc := b) (maxL := mL) (ret := rt) hpl rfl ?_⟩
  intro p e s m a below meth c s₁ B hml hex hP
  obtain ⟨rfl, h1, hk⟩ := hP
  have hts := atoms_spec (ws := ws_ y b mL rt) B.pre
  have hts : ∀ w ∈ lw_all, w.before _ s = true := fun w h => hts w (List.mem_cons_of_mem _ h)
  have hm9 := hmono
  have hb := body (Γ, HI, p, l, e, MRm rk S S', s, m, (args.map tv).toArray, below, meth, c, vx_MQ below (RQ HI res S') (RX HI res S') (args.map tv).toArray s (S'.2.1 - S.2.1) (S'.2.2.1 - S.2.2.1) (gA Γ), S, S', True) rfl rfl rfl rfl (fun _ => (name_of_methodNamed B.named B.method).1)
    (fun _ => ⟨B.exec, B.bytes, hml, by rw [← hown]; exact findClass_of_methodNamed B.named, hts, hk, B.notSynchronized, hx, rfl, rfl, by show S'.2.1 ≤ S.2.1 + (S'.2.1 - S.2.1); omega, by show S'.2.2.1 ≤ S.2.2.1 + (S'.2.2.1 - S.2.2.1); omega, hl, h1, List.eq_nil_iff_forall_not_mem.mpr hex⟩) ⟨rfl, fun _ => ⟨rfl, B.returns⟩⟩
  rw [lg_entry_eq]
  have hmo := hb.1
  refine hb.2 trivial s.heap [] 0 0 _ h1 (fun z hz => nomatch hz) (Nat.zero_add _) (Nat.zero_add _) ?_
  rw [gl_args_map]
  exact lv_entry (args.map tv) (by rw [gsm_len]; exact hle)
end GE
