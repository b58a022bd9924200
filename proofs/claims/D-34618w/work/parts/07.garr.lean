/-! arrays, new objects, calls, returns, throws of the G layer -/
theorem g_cobj : ∀ (c : Nat) (q : vw_C), g_cl[c]? = some q → Cond.castable q.1 "java/lang/Object" ∈ lw_tbl := by
  intro c q h
  match c, h with
  | 0, h => cases h; exact q2426
  | 1, h => cases h; exact q2430
  | 2, h => cases h; exact q2445
  | 3, h => cases h; exact q2448
  | 4, h => cases h; exact q2449
  | 5, h => cases h; exact q2425
  | 6, h => cases h; exact q2451
  | 7, h => cases h; exact q2452
  | 8, h => cases h; exact q2427
  | 9, h => cases h; exact q2428
  | 10, h => cases h; exact q2429
  | 11, h => cases h; exact q2431
  | 12, h => cases h; exact q2439
  | 13, h => cases h; exact q2442
  | 14, h => cases h; exact q2450
  | 15, h => cases h; exact q2432
  | 16, h => cases h; exact q2446
  | c + 17, h => simp [g_cl] at h
section GA
variable {K : KT} {own : String} {cc : ByteArray} {nL rk : Nat} {tb : List ExceptionTableEntry} {S : St} {pc : Nat} {L : List (Nat × TV)} {st : List TV} {ρ : Type} {z : ρ}
def gclsOf (e : CE) : Nat := match e with
  | .inl _ => 99
  | .inr (.inl (c, _)) => c
  | .inr (.inr (.inl _)) => 8
  | .inr (.inr (.inr (.inl _))) => 9
  | .inr (.inr (.inr (.inr (.inl _)))) => 14
  | .inr (.inr (.inr (.inr (.inr (.inl _))))) => 10
  | .inr (.inr (.inr (.inr (.inr (.inr (.inl _)))))) => 15
  | .inr (.inr (.inr (.inr (.inr (.inr (.inr _)))))) => 16
/-- r is an object of class c -/
def grc (S : St) (r : Option Nat) (c : Nat) : Bool := match gcell S r with
  | some (_, e) => gclsOf e == c
  | none => false
theorem gAt_cls {Γ : GG} {q : Nat} {e : CE} {H : Heap} (h : gAt Γ q e H) (hne : gclsOf e ≠ 99) : ∃ cell : Cell, H[q]? = some cell ∧ cell.cls = Γ.1.1 (gclsOf e) ∧ cell.vm.isStatics = false := by
  rcases e with ⟨k, n, f⟩ | ⟨c, fs⟩ | x | x | x | x | x | x
  · exact absurd rfl hne
  · obtain ⟨r, h1, cell, h2, h3, h4, -⟩ := h
    exact ⟨cell, h2, h3, by rw [h4]; rfl⟩
  all_goals
    obtain ⟨cell, h1, h2, h3, -⟩ := h
    exact ⟨cell, h1, h2, h3⟩
theorem grc_some {r : Option Nat} {c : Nat} (h : grc S r c = true) : ∃ q e, r = some q ∧ S.1 q = some e ∧ gclsOf e = c := by
  unfold grc at h
  split at h
  · next q e hc =>
    obtain ⟨h1, h2⟩ := gcell_some hc
    exact ⟨q, e, h1, h2, by simpa using h⟩
  · cases h
theorem grc_recv (C : GC0 K own cc nL rk tb) {c q N : Nat} {Cn : String} {T : u_T} {H : Heap} (hc : g_cl[c]? = some (Cn, T, N)) (hg : grc S (some q) c = true) (h1 : kHI K S H) : ∃ cellB : Cell, H[q]? = some cellB ∧ cellB.vm.isStatics = false ∧ (ks K).vm.findClass Cn = some cellB.cls := by
  obtain ⟨q', e, e1, e2, e3⟩ := grc_some hg
  cases e1
  have hlt : c < 17 := by
    have := (List.getElem?_eq_some_iff.mp hc).1
    simpa [g_cl] using this
  obtain ⟨cell, h2, h3, h4⟩ := gAt_cls (C.hi.1 S H q e h1 e2) (by omega)
  exact ⟨cell, h2, h4, by rw [h3, e3]; exact (C.kk.1 c _ hc).2.1⟩
/-! arrays -/
def aV (S : St) (r : Option Nat) (k : Nat) (i : Int32) : Option TV := (garr S r k).bind fun a => if i < 0 ∨ a.2.1 ≤ i.toNatClampNeg then none else some (a.2.2 i.toNatClampNeg)
def aI (S : St) (r : Option Nat) (k : Nat) (i : Int32) : Option Int32 := (aV S r k i).bind asI
def aR (S : St) (r : Option Nat) (k : Nat) (i : Int32) : Option (Option Nat) := (aV S r k i).bind asR
def aL (S : St) (r : Option Nat) (k : Nat) (i : Int32) : Option Int64 := (aV S r k i).bind asL
theorem aV_some {r : Option Nat} {k : Nat} {i : Int32} {v : TV} (h : aV S r k i = some v) : ∃ q n f, r = some q ∧ S.1 q = some (cA k n f) ∧ ¬ (i < 0 ∨ n ≤ i.toNatClampNeg) ∧ f i.toNatClampNeg = v := by
  obtain ⟨⟨q, n, f⟩, h1, h2⟩ := Option.bind_eq_some_iff.mp h
  obtain ⟨e1, e2⟩ := garr_some h1
  simp only at h2
  split at h2
  · cases h2
  · next hh => cases h2; exact ⟨q, n, f, e1, e2, hh, rfl⟩
theorem gAt_arr {Γ : GG} {q k n : Nat} {f : Nat → TV} {H : Heap} (h : gAt Γ q (cA k n f) H) (hk : k < 10) : H[q]? = some (arrV (Γ.2.1 k) n (fun j => tv (f j))) := by
  simp only [gAt, if_pos hk] at h
  exact h
theorem g_tyK (C : GC0 K own cc nL rk tb) (k : Nat) (hk : k < 6) : ArrOfT (ks K) ((kΓ K).2.1 k) (g_ty k) ∧ va_RA (ks K) ((kΓ K).2.1 k) (g_ty k) := by
  have h := C.kk.2
  match k, hk with
  | 0, _ => exact h 0 _ rfl
  | 1, _ => exact h 1 _ rfl
  | 2, _ => exact h 2 _ rfl
  | 3, _ => exact h 3 _ rfl
  | 4, _ => exact h 4 _ rfl
  | 5, _ => exact h 5 _ rfl
  | k + 6, hk => omega
theorem g_lald (C : GC K own cc nL rk tb) (d : decode cc pc = .ok (.laload, 1)) {r : Option Nat} {i : Int32} {x : Int64} (hv : aL S r 3 i = some x) (kk : G K nL S (pc + 1) L (vL x :: st)) : G K nL S pc L (vI i :: vR r :: st) := by
  obtain ⟨v, hv, hx⟩ := Option.bind_eq_some_iff.mp hv
  cases asL_some hx
  obtain ⟨q, n, f, rfl, hq, hin, hf⟩ := aV_some hv
  refine ⟨kk.1, fun lv H locs cells slots ls h1 h2 h3 h4 h5 => ?_⟩
  have C := C lv
  exact W.lald (v := .long x) C.hx C.hb (gAt_arr (C.hi.1 S H q _ h1 hq) (by decide)) ((g_tyK C 3 (by decide)).1 n _) (fun q => by cases q) (by rw [arrV_size]; exact hin) (by rw [arrV_read _ _ (Nat.not_le.mp fun q => hin (Or.inr q)), hf]; rfl) rfl rfl d (kk.2 lv H locs cells slots ls h1 h2 h3 h4 h5)
theorem g_aald (C : GC K own cc nL rk tb) (k : Nat) (hk : k = 4 ∨ k = 5) (d : decode cc pc = .ok (.aaload, 1)) {r : Option Nat} {i : Int32} {x : Option Nat} (hv : aR S r k i = some x) (kk : G K nL S (pc + 1) L (vR x :: st)) : G K nL S pc L (vI i :: vR r :: st) := by
  obtain ⟨v, hv, hx⟩ := Option.bind_eq_some_iff.mp hv
  cases asR_some hx
  obtain ⟨q, n, f, rfl, hq, hin, hf⟩ := aV_some hv
  refine ⟨kk.1, fun lv H locs cells slots ls h1 h2 h3 h4 h5 => ?_⟩
  have C := C lv
  exact W.aald (v := va_rf x) (ty := g_ty k) C.hx C.hb (gAt_arr (C.hi.1 S H q _ h1 hq) (by omega)) ((g_tyK C k (by omega)).1 n _) (by rcases hk with rfl | rfl <;> rfl) (fun q => by cases q) (by rw [arrV_size]; exact hin) (by rw [arrV_read _ _ (Nat.not_le.mp fun q => hin (Or.inr q)), hf]; rfl) rfl rfl d (kk.2 lv H locs cells slots ls h1 h2 h3 h4 h5)
/-- the script -/
theorem gK_of {Γ : GG} {q k n : Nat} {f : Nat → TV} {H : Heap} (h : gAt Γ q (cA k n f) H) (hk : ¬ k < 10) : gK Γ (k - 10) n f q H := by
  simp only [gAt, if_neg hk] at h
  exact h
theorem gK_arr (C : GC0 K own cc nL rk tb) {k : Nat} (hk : k < 6) {cell : Cell} (h1 : cell.cls = (kΓ K).2.1 k) (h2 : ∀ z, cell.vm ≠ .statics z) : (ks K).isArrayOf cell (g_ty k) := by
  obtain ⟨-, r⟩ := (g_tyK C k hk).1 0 (fun _ => .null)
  exact ⟨h2, by rw [h1]; exact r⟩
theorem g_iald10 (C : GC K own cc nL rk tb) (d : decode cc pc = .ok (.iaload, 1)) {r : Option Nat} {i : Int32} {x : Int32} (hv : aI S r 10 i = some x) (kk : G K nL S (pc + 1) L (vI x :: st)) : G K nL S pc L (vI i :: vR r :: st) := by
  obtain ⟨v, hv, hx⟩ := Option.bind_eq_some_iff.mp hv
  cases asI_some hx
  obtain ⟨q, n, f, rfl, hq, hin, hf⟩ := aV_some hv
  refine ⟨kk.1, fun lv H locs cells slots ls h1 h2 h3 h4 h5 => ?_⟩
  have C := C lv
  obtain ⟨cell, g1, g2, g3, g4, g5, g6⟩ := gK_of (C.hi.1 S H q _ h1 hq) (by decide)
  exact W.iald (v := .int x) C.hx C.hb g1 (gK_arr C (k := 0) (by decide) g2 g3) g4 (by rw [g5]; exact hin) (by rw [g6 _ (Nat.not_le.mp fun q => hin (Or.inr q)), hf]; rfl) rfl rfl d (kk.2 lv H locs cells slots ls h1 h2 h3 h4 h5)
/-- an array's length, of any kind -/
def aLn (S : St) (r : Option Nat) : Option Int32 := match gcell S r with
  | some (_, .inl (k, n, _)) => if k < 6 ∨ (10 ≤ k ∧ k < 16) then some (Int32.ofNat n) else none
  | _ => none
theorem aLn_some {r : Option Nat} {x : Int32} (h : aLn S r = some x) : ∃ q k n f, r = some q ∧ S.1 q = some (cA k n f) ∧ (k < 6 ∨ (10 ≤ k ∧ k < 16)) ∧ x = Int32.ofNat n := by
  unfold aLn at h
  split at h
  · next q k n f hc =>
    split at h
    · next hk =>
      obtain ⟨h1, h2⟩ := gcell_some hc
      cases h
      exact ⟨q, k, n, f, h1, h2, hk, rfl⟩
    · cases h
  · cases h
theorem g_alen (C : GC K own cc nL rk tb) (d : decode cc pc = .ok (.arraylength, 1)) {r : Option Nat} {x : Int32} (hv : aLn S r = some x) (kk : G K nL S (pc + 1) L (vI x :: st)) : G K nL S pc L (vR r :: st) := by
  obtain ⟨q, k, n, f, rfl, hq, hk, rfl⟩ := aLn_some hv
  refine ⟨kk.1, fun lv H locs cells slots ls h1 h2 h3 h4 h5 => ?_⟩
  have C := C lv
  have hat := C.hi.1 S H q _ h1 hq
  rcases hk with hk | hk
  · exact W.alen (n := Int32.ofNat n) C.hx C.hb (gAt_arr hat (by omega)) ((g_tyK C k hk).1 n _) (by rw [arrV_size] <;> rfl) rfl rfl d (kk.2 lv H locs cells slots ls h1 h2 h3 h4 h5)
  · obtain ⟨cell, g1, g2, g3, g4, g5, g6⟩ := gK_of hat (by omega)
    exact W.alen (n := Int32.ofNat n) C.hx C.hb g1 (gK_arr C (k := k - 10) (by omega) g2 g3) (by rw [g5] <;> rfl) rfl rfl d (kk.2 lv H locs cells slots ls h1 h2 h3 h4 h5)
def updT (f : Nat → TV) (k : Nat) (x : TV) : Nat → TV := fun j => if j = k then x else f j
theorem updT_tv (f : Nat → TV) (k : Nat) (x : TV) : (fun j => tv (updT f k x j)) = updV (fun j => tv (f j)) k (tv x) := by
  funext j
  simp only [updT, updV]
  split <;> rfl
/-- may r be stored in an array of kind k -/
def okst (S : St) (k : Nat) (r : Option Nat) : Bool := match r with
  | none => true
  | some q => match S.1 q with
    | some e => (k == 4 && (gclsOf e != 99)) || (k == 5 && (gclsOf e == 5))
    | none => false
def sV (S : St) (r : Option Nat) (k : Nat) (i : Int32) (v : TV) : Option St := (garr S r k).bind fun a => if i < 0 ∨ a.2.1 ≤ i.toNatClampNeg then none else some (sup S a.1 (cA k a.2.1 (updT a.2.2 i.toNatClampNeg v)))
def sL (S : St) (r : Option Nat) (i : Int32) (x : Int64) : Option St := sV S r 3 i (vL x)
def sR (S : St) (r : Option Nat) (k : Nat) (i : Int32) (x : Option Nat) : Option St := if okst S k x = true then sV S r k i (vR x) else none
theorem sV_some {r : Option Nat} {k : Nat} {i : Int32} {v : TV} {S' : St} (h : sV S r k i v = some S') : ∃ q n f, r = some q ∧ S.1 q = some (cA k n f) ∧ ¬ (i < 0 ∨ n ≤ i.toNatClampNeg) ∧ S' = sup S q (cA k n (updT f i.toNatClampNeg v)) := by
  obtain ⟨⟨q, n, f⟩, h1, h2⟩ := Option.bind_eq_some_iff.mp h
  obtain ⟨e1, e2⟩ := garr_some h1
  simp only at h2
  split at h2
  · cases h2
  · next hh => cases h2; exact ⟨q, n, f, e1, e2, hh, rfl⟩
theorem g_astG (C : GC0 K own cc nL rk tb) (lv : kLv K) {k q n : Nat} {f : Nat → TV} {i : Int32} {v : TV} (hq : S.1 q = some (cA k n f)) (hk : k < 10) (hin : ¬ (i < 0 ∨ n ≤ i.toNatClampNeg)) (kk : G K nL (sup S q (cA k n (updT f i.toNatClampNeg v))) (pc + 1) L st) {H : Heap} {locs : List Loc} {cells slots : Nat} {ls : Array Slot} (h1 : kHI K S H) (h2 : ∀ z ∈ locs, gb0 (kΓ K) ≤ z.base) (h3 : cells + (kS0 K).2.1 = S.2.1) (h4 : slots + (kS0 K).2.2.1 = S.2.2.1) (h5 : lv_has ls nL (L.map tvp)) (H' : Heap) (e1 : H'[q]? = some ((arrV ((kΓ K).2.1 k) n (fun j => tv (f j))).setSlot i.toNatClampNeg (tv v))) (e2 : H'.size = H.size) (e3 : ∀ a, a ≠ q → H'[a]? = H[a]?) : W (kp K) (kl K) (ke K) (kR K) (ks K) (km K) (ka K) (kb K) (kme K) (kc K) H' (locs ++ [⟨q, i.toNatClampNeg⟩]) cells slots (kQ K) (F0 (km K) (pc + 1) ls (st.map tv)) := by
  have hAt : gAt (kΓ K) q (cA k n (updT f i.toNatClampNeg v)) H' := by
    simp only [gAt, if_pos hk]
    rw [e1, arrV_store, updT_tv]
  refine kk.2 lv H' _ cells slots ls (C.hi.2.2.1 S H H' q k n f _ h1 hq hk e2 e3 hAt) (fun y hy => ?_) h3 h4 h5
  rcases List.mem_append.mp hy with h | h
  · exact h2 y h
  · rw [List.mem_singleton.mp h]
    exact C.hi.2.2.2.2.2.2.2.2.1 S H q k n f h1 hq hk
theorem g_last (C : GC K own cc nL rk tb) (d : decode cc pc = .ok (.lastore, 1)) {r : Option Nat} {i : Int32} {x : Int64} {S' : St} (hv : sL S r i x = some S') (kk : G K nL S' (pc + 1) L st) : G K nL S pc L (vL x :: vI i :: vR r :: st) := by
  obtain ⟨q, n, f, rfl, hq, hin, rfl⟩ := sV_some hv
  refine ⟨kk.1, fun lv H locs cells slots ls h1 h2 h3 h4 h5 => ?_⟩
  have C := C lv
  exact W.last C.hx C.hb (gAt_arr (C.hi.1 S H q _ h1 hq) (by decide)) ((g_tyK C 3 (by decide)).1 n _) (fun q => by cases q) (by rw [arrV_size]; exact hin) rfl rfl d (g_astG C lv hq (by decide) hin kk h1 h2 h3 h4 h5)
theorem g_aast (C : GC K own cc nL rk tb) (k : Nat) (hk : k = 4 ∨ k = 5) (d : decode cc pc = .ok (.aastore, 1)) {r : Option Nat} {i : Int32} {x : Option Nat} {S' : St} (hv : sR S r k i x = some S') (kk : G K nL S' (pc + 1) L st) : G K nL S pc L (vR x :: vI i :: vR r :: st) := by
  unfold sR at hv
  split at hv
  case isFalse => cases hv
  next hok =>
  obtain ⟨q, n, f, rfl, hq, hin, rfl⟩ := sV_some hv
  refine ⟨kk.1, fun lv H locs cells slots ls h1 h2 h3 h4 h5 => ?_⟩
  have C := C lv
  have hcell := gAt_arr (C.hi.1 S H q _ h1 hq) (by omega)
  have hgo := g_astG C lv hq (by omega) hin kk h1 h2 h3 h4 h5
  have hlt : i.toNatClampNeg < n := Nat.not_le.mp fun q => hin (Or.inr q)
  cases x with
  | none =>
    have harr := (g_tyK C k (by omega)).1 n (fun j => tv (f j))
    rcases hk with rfl | rfl
    · exact va_WaastN (C := "java/lang/Object") C.hx C.hb hcell harr (fun q => by cases q) (by rw [arrV_size]; exact hin) rfl rfl d hgo
    · exact va_WaastN (C := "SearchKeeper$Entry") C.hx C.hb hcell harr (fun q => by cases q) (by rw [arrV_size]; exact hin) rfl rfl d hgo
  | some v =>
    simp only [okst] at hok
    split at hok
    case h_2 => cases hok
    next e he =>
    simp only [Bool.or_eq_true, Bool.and_eq_true, beq_iff_eq, bne_iff_ne] at hok
    have hat := C.hi.1 S H v e h1 he
    have hE : gclsOf e ≠ 99 := by rcases hok with h | h <;> omega
    obtain ⟨cv, c1, c2, c3⟩ := gAt_cls hat hE
    have hcl : ∃ r : vw_C, g_cl[gclsOf e]? = some r := by
      rcases e with ⟨k, n, f⟩ | ⟨c, fs⟩ | x | x | x | x | x | x
      · exact absurd rfl hE
      · obtain ⟨r, h1, -⟩ := hat
        exact ⟨r, h1⟩
      all_goals exact ⟨_, rfl⟩
    obtain ⟨r, hr⟩ := hcl
    have hKn := (C.kk.1 _ r hr).2
    obtain ⟨kC, hkC, -⟩ := hKn.2
    rcases hk with rfl | rfl
    · obtain ⟨kA, comp, k1, k2, k3, -⟩ := (g_tyK C 4 (by decide)).2
      obtain ⟨kO, hkO, -⟩ := Vm.findClass_spec k3
      obtain ⟨c0, t0, f1, f2, f3⟩ := Cond.castable_spec (va_Nw.use (A := #[]) rfl (C.nw (g_cobj _ r hr) rfl))
      cases f1.symm.trans hKn.1
      cases f2.symm.trans k3
      exact W.aast C.hx C.hb hcell (fun q h => by cases h) (fun h => by cases h) k1 k2 rfl hkO ⟨fun q => hin (Or.inl q), by rw [arrV_size]; exact hlt⟩ c1 (fun q h => by rw [h] at c3; cases c3) (by rw [c2]; exact hkC) (by rw [c2]; exact f3) rfl rfl d hgo
    · have h5' : gclsOf e = 5 := by rcases hok with h | h <;> omega
      rw [h5'] at hr c2 hKn
      cases hr
      obtain ⟨kA, comp, k1, k2, k3, -⟩ := (g_tyK C 5 (by decide)).2
      have hcomp : comp = (kΓ K).1.1 5 := Option.some.inj (k3.symm.trans hKn.1)
      subst hcomp
      obtain ⟨kC', hkC', -⟩ := hKn.2
      exact W.aast C.hx C.hb hcell (fun q h => by cases h) (fun h => by cases h) k1 k2 rfl hkC' ⟨fun q => hin (Or.inl q), by rw [arrV_size]; exact hlt⟩ c1 (fun q h => by rw [h] at c3; cases c3) (by rw [c2]; exact hkC') (by rw [c2]; exact va_assign hKn) rfl rfl d hgo
/-! new -/
def nwB {α : Type} (S : St) (e : CE) (n : Nat) (f : Option Nat → St → Option α) : Option α := f (some S.2.1) (spu S e n)
theorem g_new (C : GC K own cc nL rk tb) {c N index : Nat} {Cn : String} {T : u_T} {ty : Nat → FieldType} (Q : GCl c N Cn T ty) {fs : List TV} (hfs : ∀ j, j < N → defaultValue (ty j) = vp_V (fs.map tv) j) (h1 : Cond.classLink own index Cn ∈ lw_all) (h2 : Cond.instantiable Cn N ∈ lw_all) (h3 : Cond.initialized Cn ∈ lw_all) (d : decode cc pc = .ok (.new index, 3)) {f : Option Nat → St → Option ρ} (hd : nwB S (cO c fs) N f = some z) (kk : ∀ r S', f r S' = some z → G K nL S' (pc + 3) L (vR r :: st)) : G K nL S pc L st := by
  have k := kk _ _ hd
  have hle := k.1
  simp only [spu] at hle
  refine ⟨⟨by omega, by omega⟩, fun lv H locs cells slots ls g1 g2 g3 g4 g5 => ?_⟩
  have C := C lv
  have hKn := C.kk.1 c _ Q.1
  have hz := C.hi.2.2.2.2.2.1 S H g1
  have r1 := C.rc
  have r2 := C.rs
  refine W.newcK C.hx C.hb C.hown (C.hts _ h1) (C.hts _ h2) (C.hts _ h3) rfl d (by omega) (by omega) hKn.2.1 rfl fun H1 kC hkC e1 z1 o1 => ?_
  have hat : gAt (kΓ K) H.size (cO c fs) H1 := ⟨_, Q.1, (u_born ty C.hts Q.2.1 hKn hkC e1 Q.2.2.1).to hfs⟩
  have hw := k.2 lv H1 locs (cells + 1) (slots + N) ls (C.hi.2.2.2.1 S H H1 _ N g1 (Or.inl ⟨c, fs, rfl⟩) z1 o1 hat) g2 (by simp only [spu]; omega) (by simp only [spu]; omega) g5
  rw [hz]
  exact hw
def gdef (k : Nat) : TV := if k = 3 then vL 0 else if k < 3 then vI 0 else vR none
def naB {α : Type} (S : St) (k : Nat) (i : Int32) (f : Option Nat → St → Option α) : Option α := if i < 0 ∨ 100000 < i.toNatClampNeg then none else f (some S.2.1) (spu S (cA k i.toNatClampNeg (fun _ => gdef k)) i.toNatClampNeg)
theorem g_newa (C : GC K own cc nL rk tb) (k : Nat) {atype : ArrayType} (hk : k < 4) (hty : newarray.typeOf atype = g_ty k) (hw : Cond.arrayClass (newarray.typeOf atype) ∈ lw_all) (d : decode cc pc = .ok (.newarray atype, 2)) {i : Int32} {f : Option Nat → St → Option ρ} (hd : naB S k i f = some z) (kk : ∀ r S', f r S' = some z → G K nL S' (pc + 2) L (vR r :: st)) : G K nL S pc L (vI i :: st) := by
  unfold naB at hd
  split at hd
  · cases hd
  next hi =>
  have k0 := kk _ _ hd
  have hle := k0.1
  simp only [spu] at hle
  refine ⟨⟨by omega, by omega⟩, fun lv H locs cells slots ls g1 g2 g3 g4 g5 => ?_⟩
  have C := C lv
  have hz := C.hi.2.2.2.2.2.1 S H g1
  have r1 := C.rc
  have r2 := C.rs
  refine va_newaK (N := i.toNatClampNeg) C.hx C.hb (C.hts _ hw) rfl d rfl (fun q => hi (Or.inl q)) rfl ?_ (by omega) (by omega) rfl fun H1 cA e1 z1 o1 hAr hNm => ?_
  · have h8 : componentBytes (newarray.typeOf atype) ≤ 8 := by cases atype <;> decide
    have h9 : i.toNatClampNeg ≤ 100000 := by omega
    exact Nat.le_trans (Nat.mul_le_mul h9 h8) (Nat.le_of_ble_eq_true rfl)
  · have hcA : cA = (kΓ K).2.1 k := by
      have h := (g_tyK C k (by omega)).2
      rw [hty] at hNm
      match k, hk with
      | 0, _ => exact Option.some.inj (hNm.symm.trans h)
      | 1, _ => exact Option.some.inj (hNm.symm.trans h)
      | 2, _ => exact Option.some.inj (hNm.symm.trans h)
      | 3, _ => exact Option.some.inj (hNm.symm.trans h)
      | k + 4, hk => omega
    subst hcA
    have hdv : (fun _ : Nat => defaultValue (newarray.typeOf atype)) = fun j => tv ((fun _ => gdef k) j) := by
      funext j
      rw [hty]
      match k, hk with
      | 0, _ => rfl
      | 1, _ => rfl
      | 2, _ => rfl
      | 3, _ => rfl
      | k + 4, hk => omega
    have hat : gAt (kΓ K) H.size (cA k i.toNatClampNeg (fun _ => gdef k)) H1 := by
      simp only [gAt]
      rw [if_pos (by omega), e1, hdv]
    have hw := k0.2 lv H1 locs (cells + 1) (slots + i.toNatClampNeg) ls (C.hi.2.2.2.1 S H H1 _ _ g1 (Or.inr ⟨k, _, _, by omega, rfl⟩) z1 o1 hat) g2 (by simp only [spu]; omega) (by simp only [spu]; omega) g5
    rw [hz]
    exact hw
theorem g_anew (C : GC K own cc nL rk tb) (k : Nat) {Cn : String} (hk : (k = 4 ∧ Cn = "java/lang/Object") ∨ (k = 5 ∧ Cn = "SearchKeeper$Entry")) {index : Nat} (hw : Cond.classLink own index Cn ∈ lw_all) (d : decode cc pc = .ok (.anewarray index, 3)) {i : Int32} {f : Option Nat → St → Option ρ} (hd : naB S k i f = some z) (kk : ∀ r S', f r S' = some z → G K nL S' (pc + 3) L (vR r :: st)) : G K nL S pc L (vI i :: st) := by
  unfold naB at hd
  split at hd
  · cases hd
  next hi =>
  have k0 := kk _ _ hd
  have hle := k0.1
  simp only [spu] at hle
  refine ⟨⟨by omega, by omega⟩, fun lv H locs cells slots ls g1 g2 g3 g4 g5 => ?_⟩
  have C := C lv
  have hz := C.hi.2.2.2.2.2.1 S H g1
  have r1 := C.rc
  have r2 := C.rs
  have hover : (Cond.arrayOver (.object Cn)).before (ka K) (ks K) = true := by
    rcases hk with ⟨-, rfl⟩ | ⟨-, rfl⟩
    · exact va_AO.use C.hk.2.2.1.1
    · exact va_AO.use C.hk.2.2.1.2
  refine W.anew C.hx C.hb C.hown (C.hts _ hw) hover rfl d rfl (fun q => hi (Or.inl q)) (by omega) (by omega) (by omega) fun cA kA comp f1 f2 f3 f4 => ?_
  generalize hH1 : H.push ({ cls := cA, slots := Array.replicate i.toNatClampNeg .null, vm := .none } : Cell) = H1
  have z1 : H1.size = H.size + 1 := by rw [← hH1, Array.size_push]
  have e1 : H1[H.size]? = some (arrV cA i.toNatClampNeg (fun _ => .null)) := by rw [← hH1, Array.getElem?_push_size, ← arrV_new]
  have o1 : ∀ q : Nat, q < H.size → H1[q]? = H[q]? := fun q hq => by rw [← hH1, Array.getElem?_push, if_neg (Nat.ne_of_lt hq)]
  have hcA : cA = (kΓ K).2.1 k := by
    rcases hk with ⟨rfl, rfl⟩ | ⟨rfl, rfl⟩
    · obtain ⟨-, -, -, -, -, h4⟩ := (g_tyK C 4 (by decide)).2
      exact Option.some.inj (f1.symm.trans h4)
    · obtain ⟨-, -, -, -, -, h4⟩ := (g_tyK C 5 (by decide)).2
      exact Option.some.inj (f1.symm.trans h4)
  subst hcA
  have hk4 : k = 4 ∨ k = 5 := by rcases hk with h | h <;> omega
  have hdv : (fun _ : Nat => Value.null) = fun j => tv ((fun _ => gdef k) j) := by
    funext j
    rcases hk4 with rfl | rfl <;> rfl
  have hat : gAt (kΓ K) H.size (cA k i.toNatClampNeg (fun _ => gdef k)) H1 := by
    simp only [gAt]
    rw [if_pos (by omega), e1, hdv]
  have hw := k0.2 lv H1 locs (cells + 1) (slots + i.toNatClampNeg) ls (C.hi.2.2.2.1 S H H1 _ _ g1 (Or.inr ⟨k, _, _, by omega, rfl⟩) z1 o1 hat) g2 (by simp only [spu]; omega) (by simp only [spu]; omega) g5
  rw [← hz] at hw
  exact hw
/-! casts -/
/-- null, or an object of class c -/
def gcst (S : St) (r : Option Nat) (c : Nat) : Bool := match r with
  | none => true
  | some _ => grc S r c
theorem g_cast (C : GC K own cc nL rk tb) {c N index : Nat} {Cn : String} {T : u_T} (hc : g_cl[c]? = some (Cn, T, N)) (hw : Cond.classLink own index Cn ∈ lw_all) (d : decode cc pc = .ok (.checkcast index, 3)) {r : Option Nat} {X : Option ρ} (hd : (if gcst S r c = true then X else none) = some z) (kk : X = some z → G K nL S (pc + 3) L (vR r :: st)) : G K nL S pc L (vR r :: st) := by
  split at hd
  case isFalse => cases hd
  next hg =>
  have k := kk hd
  refine ⟨k.1, fun lv H locs cells slots ls g1 g2 g3 g4 g5 => ?_⟩
  have C := C lv
  have h := k.2 lv H locs cells slots ls g1 g2 g3 g4 g5
  cases r with
  | none => exact lv_castN C.hx C.hb d h
  | some q => exact va_castS C.hx C.hb C.hown (C.hts _ hw) (C.kk.1 c _ hc).2 (grc_recv C hc hg g1) d h
/-- a cast to Object[]: of an array of Object -/
def gcsA (S : St) (r : Option Nat) : Bool := match gcell S r with
  | some (_, .inl (k, _, _)) => k == 4
  | _ => false
theorem g_castA (C : GC K own cc nL rk tb) {index : Nat} (hw : Cond.classLink own index "[Ljava/lang/Object;" ∈ lw_all) (d : decode cc pc = .ok (.checkcast index, 3)) {r : Option Nat} {X : Option ρ} (hd : (if gcsA S r = true then X else none) = some z) (kk : X = some z → G K nL S (pc + 3) L (vR r :: st)) : G K nL S pc L (vR r :: st) := by
  split at hd
  case isFalse => cases hd
  next hg =>
  have k := kk hd
  refine ⟨k.1, fun lv H locs cells slots ls g1 g2 g3 g4 g5 => ?_⟩
  have C := C lv
  have h := k.2 lv H locs cells slots ls g1 g2 g3 g4 g5
  unfold gcsA at hg
  split at hg
  case h_2 => cases hg
  next q k n f hc =>
  obtain ⟨rfl, hq⟩ := gcell_some hc
  cases eq_of_beq hg
  have hcell := gAt_arr (C.hi.1 S H q _ g1 hq) (by decide)
  have hnm := va_nmO (g_tyK C 4 (by decide)).2 (nm := "[Ljava/lang/Object;") (by decide)
  intro T hT X
  obtain ⟨vm', X', st'⟩ := X.checkcastYes C.hx C.hown (C.hts _ hw) (by rw [hT]; exact hcell) rfl hnm (va_asg _ _) (g := F0 (km K) pc ls (.ref q :: st.map tv)) rfl rfl (by rw [C.hb]; exact d)
  obtain ⟨t, a1, b1⟩ := h (T.setVm vm') hT X'
  exact ⟨t, st' t a1, b1⟩
end GA

