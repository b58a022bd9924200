def R_law : String := "SearchKeeperLaw"
def lw_P (b : Addr) (xs : List Int32) (args : Array Value) (s : State) : Prop := args = #[.ref b] ∧ s.IntsAt b xs ∧ xs.length ≤ 320 ∧ (Jvm.Cond.and given_1 narrow_1).before args s = true
def lw_Q (_ : Array Value) (s : State) (o : Outcome) (t : State) : Prop := o = .returned (some (.int 1)) ∧ Framed s o t [] 1200384 5487786
def lw_Z (below : List Frame) (a : Array Value) (s : State) : State → Prop := fun t => ∃ o, t.status = .running ∧ Ended t below o ∧ lw_Q a s o t
/-- the law's own end, with 1 on the stack, nothing written that was there before, its room as the claim has it -/
theorem lw_ret {p : Program} {l : Launch} {e : Env} {s : State} {m : MethodId} {below : List Frame} {meth : Method} {c : Code} {b : Nat} (hx : p.tables.exec = Jvm.exec) (hb : c.code = code) (hr : meth.sig.returnType = ret) (hlocks : meth.locks = false) {pc : Nat} {H : Heap} {ls : Array Slot} (hdg : decode code pc = .ok (.ireturn, 1)) : W p l e room_1 s m #[Value.ref b] below meth c H [] 1200384 5487786 (lw_Z below #[Value.ref b] s) (F0 m pc ls [.int 1]) := by
  intro T hT X
  obtain ⟨fs, hret, hrun, hended, hW, hframe⟩ := X.leave (v := some (.int 1)) (hlocks := hlocks) (fun h => by rw [hr] at h; cases h)
  have hmeth' : T.vm.method? m = some meth := X.method'
  refine ⟨T.setFrames fs, ?_, .returned (some (.int 1)), hrun, hended, rfl, ⟨_, rfl⟩, hW, hframe⟩
  jvm_step X.here [X.here.top, hx, hb, hdg, hmeth', hr, ret, narrow_b1]
  (try refine ⟨rfl, ?_⟩); (try refine ⟨rfl, ?_⟩)
  first | (intro acts; rw [hret _ acts rfl rfl rfl]) | rw [hret _ _ rfl rfl rfl]
  exact Steps.refl _
/-- what holds at the law's entry: the machine, the code, the tables' words (any of lw_tbl by 'hts w (by decide +kernel)'), the script of L ints xs at the cell b, what the Statement gives of the start (any of its parts by flat_of_before) -/
def lw_At (p : Program) (s : State) (m : MethodId) (meth : Method) (c : Code) (b L : Nat) (xs : Nat → Int32) : Prop :=
  p.tables.exec = Jvm.exec ∧ c.code = code ∧ meth.sig.returnType = ret ∧ c.maxLocals = 7 ∧ s.vm.findClass R_law = some m.cls ∧ (∀ w ∈ lw_tbl, w.before #[Value.ref b] s = true) ∧ va_X b L xs s s.heap ∧ b < s.heap.size ∧ meth.locks = false ∧ (Jvm.Cond.and given_1 narrow_1).before #[Value.ref b] s = true
/-! the law's end over the G layer, with less room; its switch -/
theorem lx_room {s : State} {pl : Platform} {R R' : Room} (h : s.hasRoom pl R = true) (h1 : R'.frames ≤ R.frames) (h2 : R'.locals ≤ R.locals) (h3 : R'.cells ≤ R.cells) (h4 : R'.slots ≤ R.slots) : s.hasRoom pl R' = true := by
  simp only [State.hasRoom, Bool.and_eq_true, decide_eq_true_eq] at h ⊢
  obtain ⟨⟨⟨⟨a1, a2, a3, a4, a5, a6⟩, a7⟩, a8⟩, a9⟩ := h
  exact ⟨⟨⟨⟨by omega, by omega, by omega, by omega, by omega, a6⟩, by omega⟩, by omega⟩, a9⟩
theorem lx_W {p : Program} {l : Launch} {e : Env} {R R' : Room} {s : State} {m : MethodId} {args : Array Value} {below : List Frame} {meth : Method} {c : Code} {H : Heap} {locs : List Loc} {cells slots : Nat} {Q : State → Prop} {g : JFrame} (h1 : R'.frames ≤ R.frames) (h2 : R'.locals ≤ R.locals) (h3 : R'.cells ≤ R.cells) (h4 : R'.slots ≤ R.slots)
    (k : W p l e R' s m args below meth c H locs cells slots Q g) : W p l e R s m args below meth c H locs cells slots Q g := fun T hT X =>
  k T hT ⟨X.admits, X.cas, X.clock, X.frames, lx_room X.room h1 h2 h3 h4, X.hears, X.method, X.code, X.here, X.tail, X.warmed, X.limits, X.bytes, X.same⟩
theorem lx_ret {p : Program} {l : Launch} {e : Env} {R : Room} {s : State} {m : MethodId} {below : List Frame} {meth : Method} {c : Code} {b : Nat} (hx : p.tables.exec = Jvm.exec) (hb : c.code = code) (hr : meth.sig.returnType = ret) (hlocks : meth.locks = false) {pc : Nat} {H : Heap} {ls : Array Slot} (hdg : decode code pc = .ok (.ireturn, 1)) : W p l e R s m #[Value.ref b] below meth c H [] 1200384 5487786 (lw_Z below #[Value.ref b] s) (F0 m pc ls [.int 1]) := by
  intro T hT X
  obtain ⟨fs, hret, hrun, hended, hW, hframe⟩ := X.leave (v := some (.int 1)) (hlocks := hlocks) (fun h => by rw [hr] at h; cases h)
  have hmeth' : T.vm.method? m = some meth := X.method'
  refine ⟨T.setFrames fs, ?_, .returned (some (.int 1)), hrun, hended, rfl, ⟨_, rfl⟩, hW, hframe⟩
  jvm_step X.here [X.here.top, hx, hb, hdg, hmeth', hr, ret, narrow_b1]
  (try refine ⟨rfl, ?_⟩); (try refine ⟨rfl, ?_⟩)
  first | (intro acts; rw [hret _ acts rfl rfl rfl]) | rw [hret _ _ rfl rfl rfl]
  exact Steps.refl _
def GQL (K : KT) (r : Int32) (S1 : St) : Prop := kS1 K = S1 ∧ r = 1 ∧ (kLv K → (∃ b, ka K = #[.ref b] ∧ kQ K = lw_Z (kb K) #[.ref b] (ks K)) ∧ (kme K).sig.returnType = ret ∧ gb0 (kΓ K) = (ks K).heap.size ∧ S1.2.1 ≤ (kS0 K).2.1 + 1200384 ∧ S1.2.2.1 ≤ (kS0 K).2.2.1 + 5487786)
section GLW
variable {K : KT} {own : String} {nL rk : Nat} {tb : List ExceptionTableEntry} {S S1 : St} {pc : Nat} {L : List (Nat × TV)} {st : List TV}
theorem g_lret (C : GC K own cL_law nL rk tb) {x r : Int32} (Q : GQL K r S1) (hd : rtI id .boolean x S = some (r, S1)) (d : decode cL_law pc = .ok (.ireturn, 1)) : G K nL S pc L [vI x] := by
  unfold rtI at hd
  split at hd
  · cases hd
    obtain ⟨e1, rfl, e2⟩ := Q
    refine ⟨by rw [e1]; exact ⟨Nat.le_refl _, Nat.le_refl _⟩, fun lv H locs cells slots ls h1 h2 h3 h4 h5 => ?_⟩
    obtain ⟨⟨b, ha, hq⟩, hr, hg, hc, hs⟩ := e2 lv
    have C := C lv
    rw [hq, ha]
    refine va_forget (fun z hz => by rw [← hg]; exact h2 z hz) ?_
    refine W.widen (k := 1200384) (n := 5487786) (by omega) (by omega) ?_
    exact lx_ret C.hx C.hb hr C.locks d
  · cases hd
theorem g_tabIn (C : GC K own cL_law nL rk tb) {dflt lo hi : Int} {offs : Array Int} {len : Nat} {x k : Int32} {off : Int} {tgt : Nat} (hdg : decode cL_law pc = .ok (.tableswitch dflt lo hi offs, len)) (e : x = k) (h1 : ¬ k.toInt < lo) (h2 : ¬ hi < k.toInt) (ho : offs[(k.toInt - lo).toNat]? = some off) (ht : (pc : Int) + off = (tgt : Int)) (kk : G K nL S tgt L st) : G K nL S pc L (vI x :: st) := by
  subst e
  exact ⟨kk.1, fun lv H locs cells slots ls h3 h4 h5 h6 h7 => have C := C lv; lv_tableIn C.hx C.hb hdg h1 h2 ho ht (kk.2 lv H locs cells slots ls h3 h4 h5 h6 h7)⟩
theorem g_tabOut (C : GC K own cL_law nL rk tb) {dflt lo hi : Int} {offs : Array Int} {len : Nat} {x : Int32} {tgt : Nat} (hdg : decode cL_law pc = .ok (.tableswitch dflt lo hi offs, len)) (h : x.toInt < lo ∨ hi < x.toInt) (ht : (pc : Int) + dflt = (tgt : Int)) (kk : G K nL S tgt L st) : G K nL S pc L (vI x :: st) :=
  ⟨kk.1, fun lv H locs cells slots ls h3 h4 h5 h6 h7 => have C := C lv; lv_tableOut C.hx C.hb hdg h ht (kk.2 lv H locs cells slots ls h3 h4 h5 h6 h7)⟩
end GLW
theorem tab_out {x : Int32} (h : ∀ j : Nat, j < 29 → x ≠ Int32.ofNat j) : x.toInt < (0 : Int) ∨ (28 : Int) < x.toInt := by
  by_cases h1 : x.toInt < 0
  · exact Or.inl h1
  · by_cases h2 : (28 : Int) < x.toInt
    · exact Or.inr h2
    · refine absurd ?_ (h x.toInt.toNat (by omega))
      refine Int32.toInt_inj.mp ?_
      have e : (Int32.ofNat x.toInt.toNat).toInt = (x.toInt.toNat : Int) := nI_toInt (n := x.toInt.toNat) (by omega)
      rw [e]; omega
