/-! the keeper's heap stands for a state -/
def ndC (g : GA) (f : Fl) (k : Nat) : CE := cO 1 [vI (nI k), vI (b2i (fFo f k)), vR ((fPa f k).map (g.2 2)), vI (fNm f k), vI (nI (fEd f k)), vR (some (g.2 3 k)), vI (b2i (fLk f k)), vI (fPp f k), vI (b2i (fGo f k))]
/-- the box of a small int -/
def bxr (S : St) (m : Int32) : Option Nat := some (S.2.2.2 (100 + (m + 128).toNatClampNeg))
def RKf (g : GA) (f : Fl) (S : St) : Prop := isAL S (g.2 20 0) ((List.range (fMd f)).map fun k => some (g.2 2 k)) ∧ g.1 (g.2 20 0) = (20, 0) ∧ ∀ k, k < fMd f → S.1 (g.2 2 k) = some (ndC g f k) ∧ isAL S (g.2 3 k) ((fMk f k).map (bxr S)) ∧ g.1 (g.2 2 k) = (2, k) ∧ g.1 (g.2 3 k) = (3, k)
def rtC (g : GA) (r : RtV) : CE := cO 4 [vR (some (g.2 2 r.1)), vR (some (g.2 5 r.1)), vI (b2i r.2.2.1), vR (r.2.2.2.1.map fun _ => g.2 6 r.1), vR (some (g.2 7 r.1))]
def toldC (g : GA) (S : St) (p : Nat × Nat) : CE := cO 2 [vR (some (S.2.2.2 (p.1 + 1))), vR (some (g.2 2 p.2))]
def RKq (g : GA) (S : St) (n : Nat) (q : List (Nat × Nat)) : Prop := ∃ ts : List Nat, isLL S (g.2 5 n) (ts.map some) ∧ ts.length = q.length ∧ ∀ (i t : Nat) (p : Nat × Nat), ts[i]? = some t → q[i]? = some p → S.1 t = some (toldC g S p) ∧ (g.1 t).1 = 8
def RKt (g : GA) (S : St) (r : RtV) : Prop := S.1 (g.2 4 r.1) = some (rtC g r) ∧ RKq g S r.1 r.2.1 ∧ (∀ l, r.2.2.2.1 = some l → isDQ S (g.2 6 r.1) (l.map fun k => some (g.2 2 k)) ∧ g.1 (g.2 6 r.1) = (6, r.1)) ∧ S.1 (g.2 7 r.1) = some (cBS r.2.2.2.2) ∧ g.1 (g.2 4 r.1) = (4, r.1) ∧ g.1 (g.2 5 r.1) = (5, r.1) ∧ g.1 (g.2 7 r.1) = (7, r.1)
def RKr (g : GA) (rs : List RtV) (S : St) : Prop := isLL S (g.2 21 0) (rs.map fun r => some (g.2 4 r.1)) ∧ g.1 (g.2 21 0) = (21, 0) ∧ ∀ r ∈ rs, RKt g S r
/-- the segment where a node has its living place -/
def sgO (sg : List SgV) (k : Nat) : Option Nat := (sg.find? fun x => x.2.any fun p => p.1 == k && !p.2).map (·.1)
def enC (g : GA) (k : Nat) (e : EnV) (o : Option Nat) : CE := cO 5 [vR (some (g.2 2 k)), vR (some (g.2 2 e.1)), vI e.2.1, vI (nI e.2.2.1), vR (some (g.2 10 k)), vR (o.map (g.2 12))]
def RKe (g : GA) (en : En) (o : Nat → Option Nat) (S : St) : Prop := (∃ h, S.1 (g.2 22 0) = some (cA 5 60 h) ∧ ∀ k, k < 60 → h k = vR (if (en k).isSome then some (g.2 9 k) else none)) ∧ g.1 (g.2 22 0) = (22, 0) ∧ ∀ k e, en k = some e → S.1 (g.2 9 k) = some (enC g k e (o k)) ∧ isAL S (g.2 10 k) (e.2.2.2.map (bxr S)) ∧ g.1 (g.2 9 k) = (9, k) ∧ g.1 (g.2 10 k) = (10, k)
def acC (g : GA) (a : AcV) : CE := cO 3 [vR (some (g.2 2 a.1)), vI (b2i a.2.1), vI (b2i a.2.2)]
def RKa (g : GA) (ac : List AcV) (S : St) : Prop := isLL S (g.2 23 0) (ac.map fun a => some (g.2 11 a.1)) ∧ g.1 (g.2 23 0) = (23, 0) ∧ ∀ a ∈ ac, S.1 (g.2 11 a.1) = some (acC g a) ∧ g.1 (g.2 11 a.1) = (11, a.1)
def sgC (g : GA) (x : SgV) : CE := cO 7 [vR (some (g.2 13 x.1)), vI (nI (x.2.countP fun p => p.2))]
def RKs (g : GA) (sg : List SgV) (S : St) : Prop := isAL S (g.2 24 0) (sg.map fun x => some (g.2 12 x.1)) ∧ g.1 (g.2 24 0) = (24, 0) ∧ ∀ x ∈ sg, S.1 (g.2 12 x.1) = some (sgC g x) ∧ isAL S (g.2 13 x.1) ((lvS x).map fun p => some (g.2 9 p.1)) ∧ g.1 (g.2 12 x.1) = (12, x.1) ∧ g.1 (g.2 13 x.1) = (13, x.1)
def RKw (g : GA) (w : Int64) (S : St) : Prop := S.1 (g.2 25 0) = some (cBS w) ∧ g.1 (g.2 25 0) = (25, 0)
def RKn (g : GA) (nm : Nm) (S : St) : Prop := S.1 (g.2 1 0) = some (cO 0 [vR (some (g.2 20 0)), vR (some (g.2 21 0)), vR (some (g.2 22 0)), vR (some (g.2 23 0)), vR (some (g.2 24 0)), vR (some (g.2 25 0)), vI nm.1, vI (b2i nm.2.1), vI nm.2.2.1, vI nm.2.2.2.1, vI nm.2.2.2.2.1, vI nm.2.2.2.2.2]) ∧ g.1 (g.2 1 0) = (1, 0)
/-- constants -/
def RKc (g : GA) (S : St) : Prop := (∀ i, i < 256 → S.1 (S.2.2.2 (100 + i)) = some (cBX (nI i - 128)) ∧ (g.1 (S.2.2.2 (100 + i))).1 = 30) ∧ S.2.2.2 1 ≠ S.2.2.2 3 ∧ S.2.2.2 2 ≠ S.2.2.2 3 ∧ FR g S
def RK (g : GA) (s : Sg) (S : St) : Prop := RKn g (zN s) S ∧ RKf g (zF s) S ∧ RKr g (zR s) S ∧ RKe g (zE s) (sgO (zS s)) S ∧ RKa g (zA s) S ∧ RKs g (zS s) S ∧ RKw g (zW s) S ∧ RKc g S
section
variable {S S' S1 : St} {g g' : GA} {T U : List Nat} {n m a b c : Nat} {f : Fl} {rs : List RtV} {en : En} {o : Nat → Option Nat} {ac : List AcV} {sg : List SgV} {w : Int64} {nm : Nm} {s : Sg}
/-! they are kept -/
theorem KX.at1 (x : KX T U n g S g' S') {q t i : Nat} (hq : g.1 q = (t, i)) (ht : t ∉ T) : S'.1 q = S.1 q := x.at (by rw [hq]; exact ht)
theorem KX.ow1 (x : KX T U n g S g' S') {q t i : Nat} (hq : g.1 q = (t, i)) (ht : t ∉ T) : g'.1 q = (t, i) := by rw [x.ow (by rw [hq]; exact ht), hq]
theorem bxr_c (h : S'.2.2.2 = S.2.2.2) : bxr S' = bxr S := by funext m; simp only [bxr, h]
theorem RKn.kx (h : RKn g nm S) (x : KX T U n g S g' S') (hT : 1 ∉ T := by decide) (hU : ∀ t ∈ [1, 20, 21, 22, 23, 24, 25], t ∉ U := by decide) : RKn g' nm S' := by
  obtain ⟨h1, h2⟩ := h
  simp only [List.mem_cons, List.not_mem_nil, or_false, forall_eq_or_imp, forall_eq] at hU
  obtain ⟨u1, u2, u3, u4, u5, u6, u7⟩ := hU
  simp only [RKn, x.ad u1, x.ad u2, x.ad u3, x.ad u4, x.ad u5, x.ad u6, x.ad u7]
  exact ⟨(x.at1 h2 hT).trans h1, x.ow1 h2 hT⟩
theorem ndC_kx (x : KX T U n g S g' S') (h2 : 2 ∉ U) (h3 : 3 ∉ U) (k : Nat) : ndC g' f k = ndC g f k := by simp only [ndC, x.ad h2, x.ad h3]
theorem RKf.kx (h : RKf g f S) (x : KX T U n g S g' S') (hT : ∀ t ∈ [2, 3, 20], t ∉ T := by decide) (hU : ∀ t ∈ [2, 3, 20], t ∉ U := by decide) : RKf g' f S' := by
  obtain ⟨h1, h2, h3⟩ := h
  simp only [List.mem_cons, List.not_mem_nil, or_false, forall_eq_or_imp, forall_eq] at hU hT
  obtain ⟨u1, u2, u3⟩ := hU
  obtain ⟨t1, t2, t3⟩ := hT
  simp only [RKf, ndC_kx x u1 u2, x.ad u1, x.ad u2, x.ad u3, bxr_c x.cs]
  refine ⟨h1.fr (x.at1 h2 t3), x.ow1 h2 t3, fun k hk => ?_⟩
  obtain ⟨k1, k2, k3, k4⟩ := h3 k hk
  exact ⟨(x.at1 k3 t1).trans k1, k2.fr (x.at1 k4 t2), x.ow1 k3 t1, x.ow1 k4 t2⟩
theorem RKq.kx {q : List (Nat × Nat)} (h : RKq g S n q) (h5 : g.1 (g.2 5 n) = (5, n)) (x : KX T U m g S g' S') (hT : ∀ t ∈ [5, 8], t ∉ T := by decide) (hU : ∀ t ∈ [2, 5], t ∉ U := by decide) : RKq g' S' n q := by
  obtain ⟨ts, h1, h2, h3⟩ := h
  simp only [List.mem_cons, List.not_mem_nil, or_false, forall_eq_or_imp, forall_eq] at hU hT
  obtain ⟨u1, u2⟩ := hU
  obtain ⟨t1, t2⟩ := hT
  simp only [RKq, x.ad u2]
  refine ⟨ts, h1.fr (x.at1 h5 t1), h2, fun i t p ht hp => ?_⟩
  obtain ⟨k1, k2⟩ := h3 i t p ht hp
  simp only [toldC, x.ad u1, x.cs]
  exact ⟨(x.at (by rw [k2]; exact t2)).trans k1, by rw [x.ow (by rw [k2]; exact t2)]; exact k2⟩
theorem RKt.kx {r : RtV} (h : RKt g S r) (x : KX T U m g S g' S') (hT : ∀ t ∈ [4, 5, 6, 7, 8], t ∉ T := by decide) (hU : ∀ t ∈ [2, 4, 5, 6, 7], t ∉ U := by decide) : RKt g' S' r := by
  obtain ⟨h1, h2, h3, h4, h5, h6, h7⟩ := h
  simp only [List.mem_cons, List.not_mem_nil, or_false, forall_eq_or_imp, forall_eq] at hU hT
  obtain ⟨u1, u2, u3, u4, u5⟩ := hU
  obtain ⟨t1, t2, t3, t4, t5⟩ := hT
  have hq := h2.kx h6 x (by simp [t2, t5]) (by simp [u1, u3])
  simp only [RKt, rtC, x.ad u1, x.ad u2, x.ad u3, x.ad u4, x.ad u5]
  refine ⟨(x.at1 h5 t1).trans h1, hq, fun l hl => ?_, (x.at1 h7 t4).trans h4, x.ow1 h5 t1, x.ow1 h6 t2, x.ow1 h7 t4⟩
  obtain ⟨k1, k2⟩ := h3 l hl
  exact ⟨k1.fr (x.at1 k2 t3), x.ow1 k2 t3⟩
theorem RKr.kx (h : RKr g rs S) (x : KX T U m g S g' S') (hT : ∀ t ∈ [4, 5, 6, 7, 8, 21], t ∉ T := by decide) (hU : ∀ t ∈ [2, 4, 5, 6, 7, 21], t ∉ U := by decide) : RKr g' rs S' := by
  obtain ⟨h1, h2, h3⟩ := h
  have hk := fun r hr => (h3 r hr).kx x (fun t ht => hT t (by simp only [List.mem_cons, List.not_mem_nil, or_false] at ht ⊢; omega)) (fun t ht => hU t (by simp only [List.mem_cons, List.not_mem_nil, or_false] at ht ⊢; omega))
  have u4 := hU 4 (by decide)
  have u21 := hU 21 (by decide)
  have t21 := hT 21 (by decide)
  simp only [RKr, x.ad u4, x.ad u21]
  exact ⟨h1.fr (x.at1 h2 t21), x.ow1 h2 t21, hk⟩
theorem RKe.kx (h : RKe g en o S) (x : KX T U m g S g' S') (hT : ∀ t ∈ [9, 10, 22], t ∉ T := by decide) (hU : ∀ t ∈ [2, 9, 10, 12, 22], t ∉ U := by decide) : RKe g' en o S' := by
  obtain ⟨⟨hh, h1, h1'⟩, h2, h3⟩ := h
  simp only [List.mem_cons, List.not_mem_nil, or_false, forall_eq_or_imp, forall_eq] at hU hT
  obtain ⟨u1, u2, u3, u4, u5⟩ := hU
  obtain ⟨t1, t2, t3⟩ := hT
  simp only [RKe, enC, x.ad u1, x.ad u2, x.ad u3, x.ad u4, x.ad u5, bxr_c x.cs]
  refine ⟨⟨hh, (x.at1 h2 t3).trans h1, h1'⟩, x.ow1 h2 t3, fun k e he => ?_⟩
  obtain ⟨k1, k2, k3, k4⟩ := h3 k e he
  exact ⟨(x.at1 k3 t1).trans k1, k2.fr (x.at1 k4 t2), x.ow1 k3 t1, x.ow1 k4 t2⟩
theorem RKa.kx (h : RKa g ac S) (x : KX T U m g S g' S') (hT : ∀ t ∈ [11, 23], t ∉ T := by decide) (hU : ∀ t ∈ [2, 11, 23], t ∉ U := by decide) : RKa g' ac S' := by
  obtain ⟨h1, h2, h3⟩ := h
  simp only [List.mem_cons, List.not_mem_nil, or_false, forall_eq_or_imp, forall_eq] at hU hT
  obtain ⟨u1, u2, u3⟩ := hU
  obtain ⟨t1, t2⟩ := hT
  simp only [RKa, acC, x.ad u1, x.ad u2, x.ad u3]
  refine ⟨h1.fr (x.at1 h2 t2), x.ow1 h2 t2, fun a ha => ?_⟩
  obtain ⟨k1, k2⟩ := h3 a ha
  exact ⟨(x.at1 k2 t1).trans k1, x.ow1 k2 t1⟩
theorem RKs.kx (h : RKs g sg S) (x : KX T U m g S g' S') (hT : ∀ t ∈ [12, 13, 24], t ∉ T := by decide) (hU : ∀ t ∈ [9, 12, 13, 24], t ∉ U := by decide) : RKs g' sg S' := by
  obtain ⟨h1, h2, h3⟩ := h
  simp only [List.mem_cons, List.not_mem_nil, or_false, forall_eq_or_imp, forall_eq] at hU hT
  obtain ⟨u1, u2, u3, u4⟩ := hU
  obtain ⟨t1, t2, t3⟩ := hT
  simp only [RKs, sgC, x.ad u1, x.ad u2, x.ad u3, x.ad u4]
  refine ⟨h1.fr (x.at1 h2 t3), x.ow1 h2 t3, fun y hy => ?_⟩
  obtain ⟨k1, k2, k3, k4⟩ := h3 y hy
  exact ⟨(x.at1 k3 t1).trans k1, k2.fr (x.at1 k4 t2), x.ow1 k3 t1, x.ow1 k4 t2⟩
theorem RKw.kx (h : RKw g w S) (x : KX T U m g S g' S') (hT : 25 ∉ T := by decide) (hU : 25 ∉ U := by decide) : RKw g' w S' := by
  obtain ⟨h1, h2⟩ := h
  simp only [RKw, x.ad hU]
  exact ⟨(x.at1 h2 hT).trans h1, x.ow1 h2 hT⟩
theorem RKc.kx (h : RKc g S) (x : KX T U m g S g' S') (hF : FR g' S') (hT : 30 ∉ T := by decide) : RKc g' S' := by
  obtain ⟨h1, h2, h3, -⟩ := h
  simp only [RKc, x.cs]
  refine ⟨fun i hi => ?_, h2, h3, hF⟩
  obtain ⟨k1, k2⟩ := h1 i hi
  exact ⟨(x.at (by rw [k2]; exact hT)).trans k1, by rw [x.ow (by rw [k2]; exact hT)]; exact k2⟩
/-- only what nobody owns has changed -/
theorem RK.kx0 (h : RK g s S) (x : KX [0] [] n g S g S') : RK g s S' := by
  obtain ⟨h1, h2, h3, h4, h5, h6, h7, h8⟩ := h
  exact ⟨h1.kx x, h2.kx x, h3.kx x, h4.kx x, h5.kx x, h6.kx x, h7.kx x, h8.kx x (FR_sm h8.2.2.2 x.le)⟩
/-! reading the keeper's own fields -/
theorem RKn.cl (h : RKn g nm S) : grc S (some (g.2 1 0)) 0 = true := grc_o h.1
theorem kn_0 (h : RKn g nm S) : gR S (some (g.2 1 0)) 0 0 = some (some (g.2 20 0)) := by rw [gR_e h.1]; rfl
theorem kn_1 (h : RKn g nm S) : gR S (some (g.2 1 0)) 0 1 = some (some (g.2 21 0)) := by rw [gR_e h.1]; rfl
theorem kn_2 (h : RKn g nm S) : gR S (some (g.2 1 0)) 0 2 = some (some (g.2 22 0)) := by rw [gR_e h.1]; rfl
theorem kn_3 (h : RKn g nm S) : gR S (some (g.2 1 0)) 0 3 = some (some (g.2 23 0)) := by rw [gR_e h.1]; rfl
theorem kn_4 (h : RKn g nm S) : gR S (some (g.2 1 0)) 0 4 = some (some (g.2 24 0)) := by rw [gR_e h.1]; rfl
theorem kn_5 (h : RKn g nm S) : gR S (some (g.2 1 0)) 0 5 = some (some (g.2 25 0)) := by rw [gR_e h.1]; rfl
theorem kn_6 (h : RKn g nm S) : gI S (some (g.2 1 0)) 0 6 = some nm.1 := by rw [gI_e h.1]; rfl
theorem kn_7 (h : RKn g nm S) : gI S (some (g.2 1 0)) 0 7 = some (b2i nm.2.1) := by rw [gI_e h.1]; rfl
theorem kn_8 (h : RKn g nm S) : gI S (some (g.2 1 0)) 0 8 = some nm.2.2.1 := by rw [gI_e h.1]; rfl
theorem kn_9 (h : RKn g nm S) : gI S (some (g.2 1 0)) 0 9 = some nm.2.2.2.1 := by rw [gI_e h.1]; rfl
theorem kn_10 (h : RKn g nm S) : gI S (some (g.2 1 0)) 0 10 = some nm.2.2.2.2.1 := by rw [gI_e h.1]; rfl
theorem kn_11 (h : RKn g nm S) : gI S (some (g.2 1 0)) 0 11 = some nm.2.2.2.2.2 := by rw [gI_e h.1]; rfl
/-! nodes -/
variable {k p : Nat}
theorem RKf.cl (h : RKf g f S) (hk : k < fMd f) : grc S (some (g.2 2 k)) 1 = true := grc_o (h.2.2 k hk).1
theorem nd_0 (h : RKf g f S) (hk : k < fMd f) : gI S (some (g.2 2 k)) 1 0 = some (nI k) := by rw [gI_e (h.2.2 k hk).1]; rfl
theorem nd_1 (h : RKf g f S) (hk : k < fMd f) : gI S (some (g.2 2 k)) 1 1 = some (b2i (fFo f k)) := by rw [gI_e (h.2.2 k hk).1]; rfl
theorem nd_2 (h : RKf g f S) (hk : k < fMd f) : gR S (some (g.2 2 k)) 1 2 = some ((fPa f k).map (g.2 2)) := by rw [gR_e (h.2.2 k hk).1]; rfl
theorem nd_3 (h : RKf g f S) (hk : k < fMd f) : gI S (some (g.2 2 k)) 1 3 = some (fNm f k) := by rw [gI_e (h.2.2 k hk).1]; rfl
theorem nd_4 (h : RKf g f S) (hk : k < fMd f) : gI S (some (g.2 2 k)) 1 4 = some (nI (fEd f k)) := by rw [gI_e (h.2.2 k hk).1]; rfl
theorem nd_5 (h : RKf g f S) (hk : k < fMd f) : gR S (some (g.2 2 k)) 1 5 = some (some (g.2 3 k)) := by rw [gR_e (h.2.2 k hk).1]; rfl
theorem nd_6 (h : RKf g f S) (hk : k < fMd f) : gI S (some (g.2 2 k)) 1 6 = some (b2i (fLk f k)) := by rw [gI_e (h.2.2 k hk).1]; rfl
theorem nd_7 (h : RKf g f S) (hk : k < fMd f) : gI S (some (g.2 2 k)) 1 7 = some (fPp f k) := by rw [gI_e (h.2.2 k hk).1]; rfl
theorem nd_8 (h : RKf g f S) (hk : k < fMd f) : gI S (some (g.2 2 k)) 1 8 = some (b2i (fGo f k)) := by rw [gI_e (h.2.2 k hk).1]; rfl
theorem nd_inj (h : RKf g f S) (hk : k < fMd f) (hp : p < fMd f) : (g.2 2 k = g.2 2 p) = (k = p) := by
  refine propext ⟨fun e => ?_, fun e => by rw [e]⟩
  have h1 := (h.2.2 k hk).2.2.1
  have h2 := (h.2.2 p hp).2.2.1
  rw [e, h2] at h1
  exact (congrArg (·.2) h1).symm
theorem nd_some (h : RKf g f S) (hk : k < fMd f) (hp : p < fMd f) : (some (g.2 2 k) = some (g.2 2 p)) = (k = p) := by rw [Option.some.injEq, nd_inj h hk hp]
theorem nd_opt (h : RKf g f S) {o : Option Nat} (ho : ∀ q, o = some q → q < fMd f) (hp : p < fMd f) : (o.map (g.2 2) = some (g.2 2 p)) = (o = some p) := by
  cases o with
  | none => simp
  | some q => simp only [Option.map_some, Option.some.injEq, nd_inj h (ho q rfl) hp]
theorem ndl_size (h : RKf g f S) : h_J2_size S (some (g.2 20 0)) = some (nI (fMd f), S) := by rw [al_size h.1]; simp
theorem ndl_get (h : RKf g f S) (h6 : fMd f ≤ 60) (hk : k < fMd f) : h_J2_get S (some (g.2 20 0)) (nI k) = some (some (g.2 2 k), S) := al_get h.1 (by omega) (by simp [hk])
end
