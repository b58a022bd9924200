/-! the reference's memory stands for a state -/
def prI (o : Option Nat) : Int32 := match o with
  | none => -1
  | some p => nI p
theorem prI_n : prI none = -1 := rfl
theorem prI_s (p : Nat) : prI (some p) = nI p := rfl
def RMf (f : Fl) (u : MM) : Prop := u.1 2 = nI (fMd f) ∧ ∀ k, k < fMd f → u.2 0 k = b2i (!fGo f k) ∧ u.2 1 k = b2i (fFo f k) ∧ u.2 2 k = prI (fPa f k) ∧ u.2 3 k = fNm f k ∧ u.2 4 k = nI (fEd f k) ∧ u.2 5 k = nI (fMk f k).length ∧ (∀ j m, (fMk f k)[j]? = some m → u.2 6 (20 * k + j) = m) ∧ u.2 7 k = b2i (fLk f k) ∧ u.2 8 k = fPp f k
def RRt (r : RtV) (i : Nat) (u : MM) : Prop := u.2 9 i = nI r.1 ∧ u.2 10 i = nI r.2.1.length ∧ (∀ q p, r.2.1[q]? = some p → u.2 11 (8 * i + q) = nI p.1 ∧ u.2 12 (8 * i + q) = nI p.2) ∧ u.2 13 i = b2i r.2.2.1 ∧ u.2 14 i = b2i r.2.2.2.1.isSome ∧ (∀ l, r.2.2.2.1 = some l → u.2 15 i = nI l.length ∧ ∀ q n, l[q]? = some n → u.2 16 (60 * i + q) = nI n) ∧ ∀ n, n < 60 → u.2 17 (60 * i + n) = b2i (tb r.2.2.2.2 n)
def RMr (rs : List RtV) (u : MM) : Prop := u.1 12 = nI rs.length ∧ ∀ i r, rs[i]? = some r → RRt r i u
def RMe (f : Fl) (en : En) (u : MM) : Prop := ∀ k, k < 60 → u.2 18 k = b2i (en k).isSome ∧ ∀ e, en k = some e → u.2 19 k = nI e.1 ∧ u.2 20 k = e.2.1 ∧ u.2 21 k = nI e.2.2.1 ∧ (fFo f k = false → u.2 22 k = nI e.2.2.2.length ∧ ∀ j w, e.2.2.2[j]? = some w → u.2 23 (20 * k + j) = w)
def RMa (ac : List AcV) (u : MM) : Prop := u.1 30 = nI ac.length ∧ ∀ i a, ac[i]? = some a → u.2 24 i = nI a.1 ∧ u.2 25 i = (if a.2.1 then 2 else 1) ∧ u.2 26 i = b2i a.2.2
/-- the places, in a row -/
def plF : List SgV → Nat → List (Nat × Nat × Bool)
  | [], _ => []
  | s :: t, j => s.2.map (fun p => (j, p.1, p.2)) ++ plF t (j + 1)
def RMp (P : List (Nat × Nat × Bool)) (u : MM) : Prop := u.1 37 = nI P.length ∧ ∀ i p, P[i]? = some p → u.2 27 i = nI p.1 ∧ u.2 28 i = nI p.2.1 ∧ u.2 29 i = b2i p.2.2
/-- places of what was read in this work are dead there already -/
def pnd (en : En) (w : Int64) (P : List (Nat × Nat × Bool)) : List (Nat × Nat × Bool) := P.map fun p => (p.1, p.2.1, p.2.2 || (tb w p.2.1 && (en p.2.1).isSome))
def RMs (en : En) (w : Int64) (sg : List SgV) (u : MM) : Prop := u.1 41 = nI sg.length ∧ RMp (pnd en w (plF sg 0)) u
def RMw (en : En) (w : Int64) (u : MM) : Prop := ∀ k, k < 60 → u.2 30 k = b2i (tb w k && (en k).isSome)
def RMn (nm : Nm) (u : MM) : Prop := u.1 1 = nm.1 ∧ u.1 34 = b2i nm.2.1 ∧ u.1 35 = nm.2.2.1 ∧ u.1 36 = nm.2.2.2.1 ∧ u.1 28 = nm.2.2.2.2.1 ∧ u.1 29 = nm.2.2.2.2.2
def RM (s : Sg) (u : MM) : Prop := RMf (zF s) u ∧ RMr (zR s) u ∧ RMe (zF s) (zE s) u ∧ RMa (zA s) u ∧ RMs (zE s) (zW s) (zS s) u ∧ RMw (zE s) (zW s) u ∧ RMn (zN s) u
/-! what two memories have alike -/
def Ag (I P : List Nat) (u v : MM) : Prop := (∀ j, j ∉ I → v.1 j = u.1 j) ∧ ∀ p, p ∉ P → v.2 p = u.2 p
theorem Ag_rf (I P : List Nat) (u : MM) : Ag I P u u := ⟨fun _ _ => rfl, fun _ _ => rfl⟩
theorem Ag_tr {I P : List Nat} {u v w : MM} (h : Ag I P u v) (g : Ag I P v w) : Ag I P u w := ⟨fun j hj => (g.1 j hj).trans (h.1 j hj), fun p hp => (g.2 p hp).trans (h.2 p hp)⟩
theorem Ag_up {I P I' P' : List Nat} {u v : MM} (h : Ag I P u v) (hI : ∀ j ∈ I, j ∈ I') (hP : ∀ p ∈ P, p ∈ P') : Ag I' P' u v := ⟨fun j hj => h.1 j fun z => hj (hI j z), fun p hp => h.2 p fun z => hp (hP p z)⟩
theorem Ag_ua {I P : List Nat} (u : MM) {p : Nat} (i : Nat) (x : Int32) (hp : p ∈ P) : Ag I P u (ua u p i x) := ⟨fun _ _ => rfl, fun q hq => funext fun j => by
  have : q ≠ p := fun e => hq (e ▸ hp)
  simp only [ua, this, false_and, if_false]⟩
theorem Ag_ui {I P : List Nat} (u : MM) {k : Nat} (x : Int32) (hk : k ∈ I) : Ag I P u (ui u k x) := ⟨fun j hj => by
  have : j ≠ k := fun e => hj (e ▸ hk)
  simp only [ui, this, if_false], fun _ _ => rfl⟩
theorem Ag.pa {I P : List Nat} {u v w : MM} (h : Ag I P u v) (p i : Nat) (x : Int32) (hp : p ∈ P) : Ag I P u (ua v p i x) := Ag_tr h (Ag_ua v i x hp)
theorem Ag.pi {I P : List Nat} {u v w : MM} (h : Ag I P u v) (k : Nat) (x : Int32) (hk : k ∈ I) : Ag I P u (ui v k x) := Ag_tr h (Ag_ui v x hk)
theorem RMf.ag {I P : List Nat} {f : Fl} {u v : MM} (h : RMf f u) (g : Ag I P u v) (h1 : 2 ∉ I := by decide) (h2 : ∀ p, p < 9 → p ∉ P := by decide) : RMf f v := by
  refine ⟨(g.1 _ h1).trans h.1, fun k hk => ?_⟩
  simp only [g.2 0 (h2 0 (by decide)), g.2 1 (h2 1 (by decide)), g.2 2 (h2 2 (by decide)), g.2 3 (h2 3 (by decide)), g.2 4 (h2 4 (by decide)), g.2 5 (h2 5 (by decide)), g.2 6 (h2 6 (by decide)), g.2 7 (h2 7 (by decide)), g.2 8 (h2 8 (by decide))]
  exact h.2 k hk
theorem RRt.ag {I P : List Nat} {r : RtV} {i : Nat} {u v : MM} (h : RRt r i u) (g : Ag I P u v) (h2 : ∀ p, p < 9 → p + 9 ∉ P := by decide) : RRt r i v := by
  unfold RRt
  simp only [g.2 9 (h2 0 (by decide)), g.2 10 (h2 1 (by decide)), g.2 11 (h2 2 (by decide)), g.2 12 (h2 3 (by decide)), g.2 13 (h2 4 (by decide)), g.2 14 (h2 5 (by decide)), g.2 15 (h2 6 (by decide)), g.2 16 (h2 7 (by decide)), g.2 17 (h2 8 (by decide))]
  exact h
theorem RMr.ag {I P : List Nat} {rs : List RtV} {u v : MM} (h : RMr rs u) (g : Ag I P u v) (h1 : 12 ∉ I := by decide) (h2 : ∀ p, p < 9 → p + 9 ∉ P := by decide) : RMr rs v :=
  ⟨(g.1 _ h1).trans h.1, fun i r hr => (h.2 i r hr).ag g h2⟩
theorem RMe.ag {I P : List Nat} {f : Fl} {en : En} {u v : MM} (h : RMe f en u) (g : Ag I P u v) (h2 : ∀ p, p < 6 → p + 18 ∉ P := by decide) : RMe f en v := by
  intro k hk
  simp only [g.2 18 (h2 0 (by decide)), g.2 19 (h2 1 (by decide)), g.2 20 (h2 2 (by decide)), g.2 21 (h2 3 (by decide)), g.2 22 (h2 4 (by decide)), g.2 23 (h2 5 (by decide))]
  exact h k hk
theorem RMa.ag {I P : List Nat} {ac : List AcV} {u v : MM} (h : RMa ac u) (g : Ag I P u v) (h1 : 30 ∉ I := by decide) (h2 : ∀ p, p < 3 → p + 24 ∉ P := by decide) : RMa ac v := by
  refine ⟨(g.1 _ h1).trans h.1, fun i a ha => ?_⟩
  simp only [g.2 24 (h2 0 (by decide)), g.2 25 (h2 1 (by decide)), g.2 26 (h2 2 (by decide))]
  exact h.2 i a ha
theorem RMp.ag {I Q : List Nat} {P : List (Nat × Nat × Bool)} {u v : MM} (h : RMp P u) (g : Ag I Q u v) (h1 : 37 ∉ I := by decide) (h2 : ∀ p, p < 3 → p + 27 ∉ Q := by decide) : RMp P v := by
  refine ⟨(g.1 _ h1).trans h.1, fun i a ha => ?_⟩
  simp only [g.2 27 (h2 0 (by decide)), g.2 28 (h2 1 (by decide)), g.2 29 (h2 2 (by decide))]
  exact h.2 i a ha
theorem RMs.ag {I Q : List Nat} {en : En} {w : Int64} {sg : List SgV} {u v : MM} (h : RMs en w sg u) (g : Ag I Q u v) (h0 : 41 ∉ I := by decide) (h1 : 37 ∉ I := by decide) (h2 : ∀ p, p < 3 → p + 27 ∉ Q := by decide) : RMs en w sg v := ⟨(g.1 _ h0).trans h.1, h.2.ag g h1 h2⟩
theorem RMw.ag {I P : List Nat} {en : En} {w : Int64} {u v : MM} (h : RMw en w u) (g : Ag I P u v) (h2 : 30 ∉ P := by decide) : RMw en w v := fun k hk => by
  rw [g.2 30 h2]; exact h k hk
theorem RMn.ag {I P : List Nat} {nm : Nm} {u v : MM} (h : RMn nm u) (g : Ag I P u v) (h1 : ∀ j ∈ [1, 34, 35, 36, 28, 29], j ∉ I := by decide) : RMn nm v := by
  unfold RMn
  rw [g.1 1 (h1 _ (by decide)), g.1 34 (h1 _ (by decide)), g.1 35 (h1 _ (by decide)), g.1 36 (h1 _ (by decide)), g.1 28 (h1 _ (by decide)), g.1 29 (h1 _ (by decide))]
  exact h
theorem RMf.go {f : Fl} {u : MM} (h : RMf f u) {k : Nat} (hk : k < fMd f) : u.2 0 k = b2i (!fGo f k) := (h.2 k hk).1
theorem RMf.fo {f : Fl} {u : MM} (h : RMf f u) {k : Nat} (hk : k < fMd f) : u.2 1 k = b2i (fFo f k) := (h.2 k hk).2.1
theorem RMf.pa {f : Fl} {u : MM} (h : RMf f u) {k : Nat} (hk : k < fMd f) : u.2 2 k = prI (fPa f k) := (h.2 k hk).2.2.1
theorem RMf.nm {f : Fl} {u : MM} (h : RMf f u) {k : Nat} (hk : k < fMd f) : u.2 3 k = fNm f k := (h.2 k hk).2.2.2.1
theorem RMf.ed {f : Fl} {u : MM} (h : RMf f u) {k : Nat} (hk : k < fMd f) : u.2 4 k = nI (fEd f k) := (h.2 k hk).2.2.2.2.1
theorem RMf.mm {f : Fl} {u : MM} (h : RMf f u) {k : Nat} (hk : k < fMd f) : u.2 5 k = nI (fMk f k).length := (h.2 k hk).2.2.2.2.2.1
theorem RMf.mk {f : Fl} {u : MM} (h : RMf f u) {k : Nat} (hk : k < fMd f) {j : Nat} {m : Int32} (hj : (fMk f k)[j]? = some m) : u.2 6 (20 * k + j) = m := (h.2 k hk).2.2.2.2.2.2.1 j m hj
theorem RMf.lk {f : Fl} {u : MM} (h : RMf f u) {k : Nat} (hk : k < fMd f) : u.2 7 k = b2i (fLk f k) := (h.2 k hk).2.2.2.2.2.2.2.1
theorem RMf.pp {f : Fl} {u : MM} (h : RMf f u) {k : Nat} (hk : k < fMd f) : u.2 8 k = fPp f k := (h.2 k hk).2.2.2.2.2.2.2.2
/-! the tree of nodes -/
def AC (f : Fl) (rk : Nat → Nat) : Prop := ∀ k, k < fMd f → rk k < 60 ∧ ∀ p, fPa f k = some p → p < fMd f ∧ rk p < rk k
def bel0 (f : Fl) (o : Option Nat) (a : Nat) : Bool := match o with
  | none => false
  | some p => p == a || blw f p a
theorem upc_fuel {f : Fl} {rk : Nat → Nat} (A : AC f rk) : ∀ r n c d, n < fMd f → rk n ≤ r → rk n ≤ c → rk n ≤ d → upc (fPa f) c n = upc (fPa f) d n := by
  intro r
  induction r with
  | zero =>
    intro n c d hn h1 h2 h3
    have hp : fPa f n = none := by
      cases hq : fPa f n with
      | none => rfl
      | some p => have := ((A n hn).2 p hq).2; omega
    cases c <;> cases d <;> simp [upc, hp]
  | succ r ih =>
    intro n c d hn h1 h2 h3
    cases hq : fPa f n with
    | none => cases c <;> cases d <;> simp [upc, hq]
    | some p =>
      have h4 := (A n hn).2 p hq
      cases c with
      | zero => omega
      | succ c =>
        cases d with
        | zero => omega
        | succ d =>
          simp only [upc, hq]
          rw [ih p c d h4.1 (by omega) (by omega) (by omega)]
theorem upc_eq {f : Fl} {rk : Nat → Nat} (A : AC f rk) {n : Nat} (hn : n < fMd f) : upc (fPa f) 60 n = match fPa f n with
  | none => []
  | some p => p :: upc (fPa f) 60 p := by
  conv => lhs; unfold upc
  cases hq : fPa f n with
  | none => rfl
  | some p =>
    have h4 := (A n hn).2 p hq
    have h5 := (A n hn).1
    simp only
    rw [upc_fuel A _ p 59 60 h4.1 (Nat.le_refl _) (by omega) (by omega)]
theorem blw_eq {f : Fl} {rk : Nat → Nat} (A : AC f rk) {n : Nat} (hn : n < fMd f) (a : Nat) : blw f n a = bel0 f (fPa f n) a := by
  simp only [blw, bel0]
  rw [upc_eq A hn]
  cases fPa f n with
  | none => rfl
  | some p => rfl
