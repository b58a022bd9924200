/-! rows of the G layer that read and write the heap, make, call, return, throw -/
def asI : TV → Option Int32
  | .inl x => some x
  | _ => none
def asR : TV → Option (Option Nat)
  | .inr (.inl r) => some r
  | _ => none
def asL : TV → Option Int64
  | .inr (.inr x) => some x
  | _ => none
theorem asI_some {v : TV} {x : Int32} (h : asI v = some x) : v = vI x := by
  rcases v with y | r | y
  · cases h; rfl
  · cases h
  · cases h
theorem asR_some {v : TV} {x : Option Nat} (h : asR v = some x) : v = vR x := by
  rcases v with y | r | y
  · cases h
  · cases h; rfl
  · cases h
theorem asL_some {v : TV} {x : Int64} (h : asL v = some x) : v = vL x := by
  rcases v with y | r | y
  · cases h
  · cases h
  · cases h; rfl
/-- the cell of a reference -/
def gcell (S : St) (r : Option Nat) : Option (Nat × CE) := match r with
  | none => none
  | some q => match S.1 q with
    | none => none
    | some e => some (q, e)
theorem gcell_some {S : St} {r : Option Nat} {q : Nat} {e : CE} (h : gcell S r = some (q, e)) : r = some q ∧ S.1 q = some e := by
  cases r with
  | none => cases h
  | some a =>
    simp only [gcell] at h
    cases hq : S.1 a with
    | none => rw [hq] at h; cases h
    | some e2 => rw [hq] at h; cases h; exact ⟨rfl, hq⟩
/-- an object's fields, when it is of class c -/
def gobj (S : St) (r : Option Nat) (c : Nat) : Option (Nat × List TV) := match gcell S r with
  | some (q, .inr (.inl (c', fs))) => if c' = c then some (q, fs) else none
  | _ => none
theorem gobj_some {S : St} {r : Option Nat} {c q : Nat} {fs : List TV} (h : gobj S r c = some (q, fs)) : r = some q ∧ S.1 q = some (cO c fs) := by
  unfold gobj at h
  split at h
  · next q' c' fs' hc =>
    split at h
    · next e => cases h; subst e; exact gcell_some hc
    · cases h
  · cases h
def garr (S : St) (r : Option Nat) (k : Nat) : Option (Nat × Nat × (Nat → TV)) := match gcell S r with
  | some (q, .inl (k', n, f)) => if k' = k then some (q, n, f) else none
  | _ => none
theorem garr_some {S : St} {r : Option Nat} {k q n : Nat} {f : Nat → TV} (h : garr S r k = some (q, n, f)) : r = some q ∧ S.1 q = some (cA k n f) := by
  unfold garr at h
  split at h
  · next q' k' n' f' hc =>
    split at h
    · next e => cases h; subst e; exact gcell_some hc
    · cases h
  · cases h
def gF (S : St) (r : Option Nat) (c k : Nat) : Option TV := (gobj S r c).bind fun o => o.2[k]?
def gI (S : St) (r : Option Nat) (c k : Nat) : Option Int32 := (gF S r c k).bind asI
def gR (S : St) (r : Option Nat) (c k : Nat) : Option (Option Nat) := (gF S r c k).bind asR
def gL (S : St) (r : Option Nat) (c k : Nat) : Option Int64 := (gF S r c k).bind asL
def pF (S : St) (r : Option Nat) (c k : Nat) (v : TV) : Option St := (gobj S r c).bind fun o => if k < o.2.length then some (sup S o.1 (cO c (o.2.set k v))) else none
/-- an int that a field of a type may hold -/
def gfit (ty : FieldType) (x : Int32) : Bool := match ty with
  | .boolean => decide (x = 0 ∨ x = 1)
  | .char => decide (0 ≤ x ∧ x ≤ 65535)
  | .int => true
  | _ => false
theorem gfit_ok {ty : FieldType} {x : Int32} (h : gfit ty x = true) : narrow ty (.int x) = .int x ∧ fits ty (.int x) = true := by
  cases ty with
  | boolean =>
    simp only [gfit, decide_eq_true_eq] at h
    rcases h with rfl | rfl <;> exact ⟨by decide, by decide⟩
  | char =>
    simp only [gfit, decide_eq_true_eq] at h
    obtain ⟨j, h1, rfl⟩ := nI_of2 (M := 65535) (n := 65535) (by decide) (Int32.not_lt.mpr h.1) h.2
    exact pk_charN (by omega)
  | int => exact ⟨rfl, rfl⟩
  | _ => simp [gfit] at h
def pI (ty : FieldType) (S : St) (r : Option Nat) (c k : Nat) (x : Int32) : Option St := if gfit ty x = true then pF S r c k (vI x) else none
def pR (S : St) (r : Option Nat) (c k : Nat) (x : Option Nat) : Option St := pF S r c k (vR x)
section GH
variable {K : KT} {own : String} {cc : ByteArray} {nL rk : Nat} {tb : List ExceptionTableEntry} {S : St} {pc : Nat} {L : List (Nat × TV)} {st : List TV} {ρ : Type} {z : ρ}
/-- a class with its number and table -/
def GCl (c N : Nat) (Cn : String) (T : u_T) (ty : Nat → FieldType) : Prop := g_cl[c]? = some (Cn, T, N) ∧ (∀ w ∈ u_ws Cn T N, w ∈ lw_all) ∧ (∀ k, k < N → parseFieldDescriptor (T k).2.2.1 = some (ty k)) ∧ (∀ a, a < N → ∀ b, b < N → a ≠ b → (T a).2.1 ≠ (T b).2.1)
theorem gAt_P {Γ : GG} {q c : Nat} {fs : List TV} {H : Heap} (h : gAt Γ q (cO c fs) H) : va_P Γ.1 g_cl [(q, .inr (c, fs.map tv))] H := fun k x hk => by
  cases k with
  | zero => cases hk; exact h
  | succ k => cases hk
theorem g_fld (C : GC K own cc nL rk tb) {c k N index : Nat} {Cn ref : String} {T : u_T} {ty : Nat → FieldType} (Q : GCl c N Cn T ty) (hk : k < N) (hl : Cond.fieldLink own index ref (T k).2.1 (T k).2.2.1 ∈ lw_all) (hs : ref = (T k).1 ∨ Cond.sameField ref (T k).1 (T k).2.1 (T k).2.2.1 ∈ lw_all) (d : decode cc pc = .ok (.getfield index, 3)) {r : Option Nat} {v : TV} (hv : gF S r c k = some v) (kk : G K nL S (pc + 3) L (v :: st)) : G K nL S pc L (vR r :: st) := by
  obtain ⟨⟨q, fs⟩, ho, hf⟩ := Option.bind_eq_some_iff.mp hv
  obtain ⟨rfl, hq⟩ := gobj_some ho
  refine ⟨kk.1, fun lv H locs cells slots ls h1 h2 h3 h4 h5 => ?_⟩
  have C := C lv
  refine va_get C.hx C.hb C.hts Q.2.1 C.hown C.kk (gAt_P (C.hi.1 S H q _ h1 hq)) 0 rfl Q.1 k hk (C.hts _ hl) (fun x hx => ?_) (v := tv v) (by rw [List.getElem?_map]; simp only at hf; rw [hf]; rfl) d (kk.2 lv H locs cells slots ls h1 h2 h3 h4 h5)
  rcases hs with e | e
  · rw [e]; exact hx
  · exact u_same (C.hts _ e) x hx
theorem g_fldN (C : GC K own cc nL rk tb) {c k N index : Nat} {Cn ref host : String} {T : u_T} {ty : Nat → FieldType} (Q : GCl c N Cn T ty) (hk : k < N) (hl : Cond.fieldLinkNest own index ref (T k).2.1 (T k).2.2.1 host ∈ lw_tbl) (hs : ref = (T k).1) (d : decode cc pc = .ok (.getfield index, 3)) {r : Option Nat} {v : TV} (hv : gF S r c k = some v) (kk : G K nL S (pc + 3) L (v :: st)) : G K nL S pc L (vR r :: st) := by
  obtain ⟨⟨q, fs⟩, ho, hf⟩ := Option.bind_eq_some_iff.mp hv
  obtain ⟨rfl, hq⟩ := gobj_some ho
  refine ⟨kk.1, fun lv H locs cells slots ls h1 h2 h3 h4 h5 => ?_⟩
  have C := C lv
  exact va_getN C.hx C.hb C.hts Q.2.1 C.hown C.kk (gAt_P (C.hi.1 S H q _ h1 hq)) 0 rfl Q.1 k hk (va_Nw.use rfl (C.nw hl rfl)) (fun x hx => by rw [hs]; exact hx) (v := tv v) (by rw [List.getElem?_map]; simp only at hf; rw [hf]; rfl) d (kk.2 lv H locs cells slots ls h1 h2 h3 h4 h5)
/-- a field's write, as the machine does it: at a cell that is known, all else unchanged -/
theorem g_putG (C : GC K own cc nL rk tb) {c k N : Nat} {Cn : String} {T : u_T} {ty : Nat → FieldType} (Q : GCl c N Cn T ty) (hk : k < N) {r : Option Nat} {v : TV} {S' : St} (hv : pF S r c k v = some S') (kk : G K nL S' (pc + 3) L st)
    (go : kLv K → ∀ (H : Heap) (locs : List Loc) (cells slots : Nat) (ls : Array Slot) (q : Nat) (cell : Cell) (cf kf fi : _) (f : Field), r = some q → H[q]? = some cell → cell.vm = .none → cell.cls = (kΓ K).1.1 c → (ks K).fieldFound? (T k).1 (T k).2.1 (T k).2.2.1 = some (cf, kf, fi, f) → f.slot = (kΓ K).1.2 c k → f.slot < cell.slots.size →
      (∀ (H' : Heap), H'[q]? = some (cell.setSlot f.slot (tv v)) → H'.size = H.size → (∀ a, a ≠ q → H'[a]? = H[a]?) → W (kp K) (kl K) (ke K) (kR K) (ks K) (km K) (ka K) (kb K) (kme K) (kc K) H' (locs ++ [⟨q, f.slot⟩]) cells slots (kQ K) (F0 (km K) (pc + 3) ls (st.map tv))) →
      W (kp K) (kl K) (ke K) (kR K) (ks K) (km K) (ka K) (kb K) (kme K) (kc K) H locs cells slots (kQ K) (F0 (km K) pc ls (tv v :: va_rf r :: st.map tv))) : G K nL S pc L (v :: vR r :: st) := by
  obtain ⟨⟨q, fs⟩, ho, hf⟩ := Option.bind_eq_some_iff.mp hv
  obtain ⟨rfl, hq⟩ := gobj_some ho
  simp only at hf
  split at hf
  · next hlt =>
    cases hf
    refine ⟨kk.1, fun lv H locs cells slots ls h1 h2 h3 h4 h5 => ?_⟩
    have C := C lv
    have hap := va_apart (own := own) C.hts Q.2.1 ty Q.2.2.1 Q.2.2.2 C.kk Q.1
    obtain ⟨r2, g1, cell, q1, q2, q3, q4⟩ := C.hi.1 S H q _ h1 hq
    cases Option.some.inj (g1.symm.trans Q.1)
    obtain ⟨hS, hfc, kC, hkC, hkind⟩ := C.kk.1 c _ Q.1
    obtain ⟨cf, kf, fi, f, hi, hsl⟩ := hS k hk
    refine go lv H locs cells slots ls q cell cf kf fi f rfl q1 q3 q2 hi hsl (by rw [hsl]; exact k2_hasslot (q4 k hk)) fun H' e1 e2 e3 => ?_
    have hAt : gAt (kΓ K) q (cO c (fs.set k v)) H' := by
      refine ⟨_, Q.1, ?_⟩
      rw [hsl] at e1
      refine t_OB.to (V := updV (vp_V (fs.map tv)) k (tv v)) ⟨_, e1, q2, q3, t_set q4 hap hk (tv v)⟩ (fun j _ => ?_)
      show _ = vp_V ((fs.set k v).map tv) j
      rw [List.map_set]
      exact vp_updV_set (by rw [List.length_map]; exact hlt) (tv v) j
    refine kk.2 lv H' _ cells slots ls (C.hi.2.1 S H H' q c fs _ h1 hq (List.length_set ..) e2 e3 hAt) (fun y hy => ?_) h3 h4 h5
    rcases List.mem_append.mp hy with h | h
    · exact h2 y h
    · rw [List.mem_singleton.mp h]
      exact C.hi.2.2.2.2.2.2.2.1 S H q c fs h1 hq
  · cases hf
theorem g_put (C : GC K own cc nL rk tb) {c k N index : Nat} {Cn ref : String} {T : u_T} {ty : Nat → FieldType} (Q : GCl c N Cn T ty) (hk : k < N) (hl : Cond.fieldLink own index ref (T k).2.1 (T k).2.2.1 ∈ lw_all) (hs : ref = (T k).1 ∨ Cond.sameField ref (T k).1 (T k).2.1 (T k).2.2.1 ∈ lw_all) (hfin : (T k).2.2.2 = false) (d : decode cc pc = .ok (.putfield index, 3)) {r : Option Nat} {v : TV} (hn : narrow (ty k) (tv v) = tv v) (hfit : fits (ty k) (tv v) = true) {S' : St} (hv : pF S r c k v = some S') (kk : G K nL S' (pc + 3) L st) : G K nL S pc L (v :: vR r :: st) := by
  refine g_putG C Q hk hv kk fun lv H locs cells slots ls q cell cf kf fi f hr q1 q3 q2 hi hsl hlt go => ?_
  have C := C lv
  subst hr
  obtain ⟨hS, hfc, kC, hkC, hkind⟩ := C.kk.1 c _ Q.1
  have hlay := C.hts _ (Q.2.1 _ (u_in_lay hk))
  unfold u_lay at hlay
  rw [if_neg (by rw [hfin]; decide)] at hlay
  have hst := (u_facts hfc hkC (u_lays C.hts Q.2.1 hk) hi).1
  have h6 := u_store hfc hkC hkind hlay hi (Q.2.2.1 k hk) hn hfit
  have hsame : (ks K).fieldFound? ref (T k).2.1 (T k).2.2.1 = some (cf, kf, fi, f) := by
    rcases hs with e | e
    · rw [e]; exact hi
    · exact u_same (C.hts _ e) _ hi
  exact W.putK C.hx C.hb (f := f) ⟨C.hown, C.hts _ hl, ⟨_, _, _, hsame⟩, hst⟩ (by rw [q2]; exact h6) q1 q3 hlt rfl rfl d go
theorem g_putN (C : GC K own cc nL rk tb) {c k N index : Nat} {Cn ref host : String} {T : u_T} {ty : Nat → FieldType} (Q : GCl c N Cn T ty) (hk : k < N) (hl : Cond.fieldLinkNest own index ref (T k).2.1 (T k).2.2.1 host ∈ lw_tbl) (hs : ref = (T k).1) (hfin : (T k).2.2.2 = false) (d : decode cc pc = .ok (.putfield index, 3)) {r : Option Nat} {v : TV} (hn : narrow (ty k) (tv v) = tv v) (hfit : fits (ty k) (tv v) = true) {S' : St} (hv : pF S r c k v = some S') (kk : G K nL S' (pc + 3) L st) : G K nL S pc L (v :: vR r :: st) := by
  refine g_putG C Q hk hv kk fun lv H locs cells slots ls q cell cf kf fi f hr q1 q3 q2 hi hsl hlt go => ?_
  have C := C lv
  subst hr
  obtain ⟨hS, hfc, kC, hkC, hkind⟩ := C.kk.1 c _ Q.1
  have hlay := C.hts _ (Q.2.1 _ (u_in_lay hk))
  unfold u_lay at hlay
  rw [if_neg (by rw [hfin]; decide)] at hlay
  have hst := (u_facts hfc hkC (u_lays C.hts Q.2.1 hk) hi).1
  have h6 := u_store hfc hkC hkind hlay hi (Q.2.2.1 k hk) hn hfit
  exact va_WputK C.hx C.hb (f := f) C.hown (va_Nw.use rfl (C.nw hl rfl)) (by rw [hs]; exact hi) hst (by rw [q2]; exact h6) q1 q3 hlt rfl rfl d go
theorem g_putF (C : GC K own cc nL rk tb) {c k N index : Nat} {Cn ref : String} {T : u_T} {ty : Nat → FieldType} (Q : GCl c N Cn T ty) (hk : k < N) (hl : Cond.fieldLink own index ref (T k).2.1 (T k).2.2.1 ∈ lw_all) (hs : ref = (T k).1) (hfin : (T k).2.2.2 = true) (hin : kLv K → (kme K).name = "<init>") (hdecl : (T k).1 = own) (d : decode cc pc = .ok (.putfield index, 3)) {r : Option Nat} {v : TV} (hn : narrow (ty k) (tv v) = tv v) (hfit : fits (ty k) (tv v) = true) {S' : St} (hv : pF S r c k v = some S') (kk : G K nL S' (pc + 3) L st) : G K nL S pc L (v :: vR r :: st) := by
  refine g_putG C Q hk hv kk fun lv H locs cells slots ls q cell cf kf fi f hr q1 q3 q2 hi hsl hlt go => ?_
  have C := C lv
  subst hr
  obtain ⟨hS, hfc, kC, hkC, hkind⟩ := C.kk.1 c _ Q.1
  have hlay := C.hts _ (Q.2.1 _ (u_in_lay hk))
  unfold u_lay at hlay
  rw [if_pos hfin] at hlay
  have hst := (u_facts hfc hkC (u_lays C.hts Q.2.1 hk) hi).1
  have hcf : (km K).cls = cf := by
    obtain ⟨_, _, c', _, _, _, -, -, hf', -, -, -, hown2, -⟩ := Cond.laysFinal_spec hlay
    have e1 : c' = cf := by have := hi.symm.trans hf'; simp at this; exact this.1.symm
    rw [hdecl] at hown2
    rw [← e1]; exact Option.some.inj (C.hown.symm.trans hown2)
  have h6 := u_fits hfc hkC hkind (Or.inr hlay) hi (Q.2.2.1 k hk) hn hfit
  exact W.putFinK C.hx C.hb C.hown (C.hts _ hl) (by rw [hs]; exact hi) hst hcf (hin lv) (by rw [q2]; exact h6) q1 q3 hlt rfl rfl d go
/-! typed forms, with the den's own step -/
theorem gI_v {r : Option Nat} {c k : Nat} {x : Int32} (h : gI S r c k = some x) : gF S r c k = some (vI x) := by
  obtain ⟨v, h1, h2⟩ := Option.bind_eq_some_iff.mp h
  rw [h1, asI_some h2]
theorem gR_v {r : Option Nat} {c k : Nat} {x : Option Nat} (h : gR S r c k = some x) : gF S r c k = some (vR x) := by
  obtain ⟨v, h1, h2⟩ := Option.bind_eq_some_iff.mp h
  rw [h1, asR_some h2]
theorem gL_v {r : Option Nat} {c k : Nat} {x : Int64} (h : gL S r c k = some x) : gF S r c k = some (vL x) := by
  obtain ⟨v, h1, h2⟩ := Option.bind_eq_some_iff.mp h
  rw [h1, asL_some h2]
theorem pI_v {ty : FieldType} {r : Option Nat} {c k : Nat} {x : Int32} {S' : St} (h : pI ty S r c k x = some S') : gfit ty x = true ∧ pF S r c k (vI x) = some S' := by
  unfold pI at h
  split at h
  · next h1 => exact ⟨h1, h⟩
  · cases h
theorem fit_ref (r : Option Nat) {ty : FieldType} (h : (∃ n, ty = .object n) ∨ ∃ t, ty = .array t) : narrow ty (tv (vR r)) = tv (vR r) ∧ fits ty (tv (vR r)) = true := by
  rcases h with ⟨n, rfl⟩ | ⟨t, rfl⟩ <;> cases r <;> exact ⟨rfl, rfl⟩
end GH
