/-! loops over the keeper's linked lists; its questions about roots -/
section
variable {S S' S1 : St} {g g' : GA} {T U : List Nat} {n m a b c : Nat} {f : Fl} {rs : List RtV} {en : En} {o : Nat → Option Nat} {ac : List AcV} {sg : List SgV} {w : Int64} {nm : Nm} {s : Sg} {rk : Nat → Nat} {k p : Nat}
theorem find_at {α : Type} {l : List α} {t : α → Bool} {i : Nat} {r : α} (h : l[i]? = some r) (hr : t r = true) (hj : ∀ (j : Nat) (q : α), j < i → l[j]? = some q → t q = false) : l.find? t = some r ∧ l.findIdx t = i := by
  have hi := (List.getElem?_eq_some_iff.mp h).1
  have e : l.findIdx t = i := by
    refine (List.findIdx_eq hi).mpr ⟨?_, fun j hji => ?_⟩
    · have := (List.getElem?_eq_some_iff.mp h).2
      rw [this]; exact hr
    · exact hj j _ hji (List.getElem?_eq_getElem (by omega))
  refine ⟨?_, e⟩
  rw [List.find?_eq_getElem?_findIdx, e]; exact h
/-- a loop that looks for one -/
theorem it_find {α δ : Type} {l : List α} {ad : α → Nat} (test : α → Bool) (L : Nat → St → Option δ) (hitF : α → St → Option δ) (endF : St → Option δ) {S0 : St} {it a : Nat} (h0 : IT S0 it a (l.map fun z => some (ad z)) 0) (how : (g.1 it).1 = 0)
    (hend : ∀ m S1, IT S1 it a (l.map fun z => some (ad z)) l.length → KX [0] [] 0 g S0 g S1 → L (m + 1) S1 = endF S1)
    (hstep : ∀ m S1 S2 i r, l[i]? = some r → IT S1 it a (l.map fun z => some (ad z)) i → KX [0] [] 0 g S0 g S1 → h_J29_next S1 (some it) = some (some (ad r), S2) → IT S2 it a (l.map fun z => some (ad z)) (i + 1) → KX [0] [] 0 g S0 g S2 → L (m + 1) S1 = if test r then hitF r S2 else L m S2) :
    (∃ S' r, l[l.findIdx test]? = some r ∧ l.find? test = some r ∧ KX [0] [] 0 g S0 g S' ∧ ITr S' it a (l.map fun z => some (ad z)) (l.findIdx test + 1) ∧ L FU S0 = hitF r S') ∨ (∃ S', l.find? test = none ∧ KX [0] [] 0 g S0 g S' ∧ IT S' it a (l.map fun z => some (ad z)) l.length ∧ L FU S0 = endF S') := by
  have hlen : l.length < 1000 := by
    obtain ⟨_, _, _, -, -, -, h, -⟩ := h0
    simpa using h
  have key : ∀ m i S1, i ≤ l.length → l.length - i < m → (∀ (j : Nat) (q : α), j < i → l[j]? = some q → test q = false) → IT S1 it a (l.map fun z => some (ad z)) i → KX [0] [] 0 g S0 g S1 → (∃ S' r, l[l.findIdx test]? = some r ∧ l.find? test = some r ∧ KX [0] [] 0 g S0 g S' ∧ ITr S' it a (l.map fun z => some (ad z)) (l.findIdx test + 1) ∧ L m S1 = hitF r S') ∨ (∃ S', l.find? test = none ∧ KX [0] [] 0 g S0 g S' ∧ IT S' it a (l.map fun z => some (ad z)) l.length ∧ L m S1 = endF S') := by
    intro m
    induction m with
    | zero => intro i S1 _ h; omega
    | succ m ih =>
      intro i S1 hi hm hj hit hx
      by_cases e : i = l.length
      · subst e
        refine Or.inr ⟨S1, ?_, hx, hit, hend m S1 hit hx⟩
        refine List.find?_eq_none.mpr fun q hq => ?_
        obtain ⟨j, hj2⟩ := List.mem_iff_getElem?.mp hq
        rw [hj j q (List.getElem?_eq_some_iff.mp hj2).1 hj2]; decide
      · have hil : i < l.length := by omega
        have hr : l[i]? = some l[i] := List.getElem?_eq_getElem hil
        obtain ⟨S2, n1, n2, n3⟩ := it_next hit (x := some (ad l[i])) (by rw [List.getElem?_map, hr]; rfl)
        have hx2 : KX [0] [] 0 g S0 g S2 := KX_tr hx (KX_ch n3 (by decide) (by rw [how]; decide))
        have hs := hstep m S1 S2 i l[i] hr hit hx n1 n2.it hx2
        rw [hs]
        rcases Bool.eq_false_or_eq_true (test l[i]) with b | b
        · obtain ⟨f1, f2⟩ := find_at hr b hj
          rw [if_pos b]
          exact Or.inl ⟨S2, l[i], by rw [f2]; exact hr, f1, hx2, by rw [f2]; exact n2, rfl⟩
        · rw [if_neg (by rw [b]; decide)]
          refine ih (i + 1) S2 (by omega) (by omega) (fun j q hji hq => ?_) n2.it hx2
          by_cases e2 : j = i
          · subst e2; rw [hr] at hq; cases hq; exact b
          · exact hj j q (by omega) hq
  exact key FU 0 S0 (Nat.zero_le _) (by simp only [FU]; omega) (fun j q h => by omega) h0 (KX_rf (by decide))
/-- a loop that gathers -/
theorem it_fold {α δ γ : Type} {l : List α} {ad : α → Nat} (up : γ → α → γ) (L : Nat → γ → St → Option δ) (endF : γ → St → Option δ) {S0 : St} {it a : Nat} (h0 : IT S0 it a (l.map fun z => some (ad z)) 0) (how : (g.1 it).1 = 0)
    (hend : ∀ m S1 c, IT S1 it a (l.map fun z => some (ad z)) l.length → KX [0] [] 0 g S0 g S1 → L (m + 1) c S1 = endF c S1)
    (hstep : ∀ m S1 S2 i r c, l[i]? = some r → IT S1 it a (l.map fun z => some (ad z)) i → KX [0] [] 0 g S0 g S1 → h_J29_next S1 (some it) = some (some (ad r), S2) → IT S2 it a (l.map fun z => some (ad z)) (i + 1) → KX [0] [] 0 g S0 g S2 → L (m + 1) c S1 = L m (up c r) S2) (c0 : γ) :
    ∃ S', KX [0] [] 0 g S0 g S' ∧ L FU c0 S0 = endF (l.foldl up c0) S' := by
  have hlen : l.length < 1000 := by
    obtain ⟨_, _, _, -, -, -, h, -⟩ := h0
    simpa using h
  have key : ∀ m i S1, i ≤ l.length → l.length - i < m → IT S1 it a (l.map fun z => some (ad z)) i → KX [0] [] 0 g S0 g S1 → ∃ S', KX [0] [] 0 g S0 g S' ∧ L m ((l.take i).foldl up c0) S1 = endF (l.foldl up c0) S' := by
    intro m
    induction m with
    | zero => intro i S1 _ h; omega
    | succ m ih =>
      intro i S1 hi hm hit hx
      by_cases e : i = l.length
      · subst e
        exact ⟨S1, hx, by rw [hend m S1 _ hit hx, List.take_length]⟩
      · have hil : i < l.length := by omega
        have hr : l[i]? = some l[i] := List.getElem?_eq_getElem hil
        obtain ⟨S2, n1, n2, n3⟩ := it_next hit (x := some (ad l[i])) (by rw [List.getElem?_map, hr]; rfl)
        have hx2 : KX [0] [] 0 g S0 g S2 := KX_tr hx (KX_ch n3 (by decide) (by rw [how]; decide))
        rw [hstep m S1 S2 i l[i] _ hr hit hx n1 n2.it hx2]
        obtain ⟨S', q1, q2⟩ := ih (i + 1) S2 (by omega) (by omega) n2.it hx2
        refine ⟨S', q1, ?_⟩
        rw [← q2, List.take_succ_eq_append_getElem hil, List.foldl_append]
        rfl
  obtain ⟨S', q1, q2⟩ := key FU 0 S0 (Nat.zero_le _) (by simp only [FU]; omega) h0 (KX_rf (by decide))
  exact ⟨S', q1, by simpa using q2⟩
/-! roots -/
theorem RKr.cl (h : RKr g rs S) {r : RtV} (hr : r ∈ rs) : grc S (some (g.2 4 r.1)) 4 = true := grc_o (h.2.2 r hr).1
theorem rt_0 (h : RKr g rs S) {r : RtV} (hr : r ∈ rs) : gR S (some (g.2 4 r.1)) 4 0 = some (some (g.2 2 r.1)) := by rw [gR_e (h.2.2 r hr).1]; rfl
theorem rt_1 (h : RKr g rs S) {r : RtV} (hr : r ∈ rs) : gR S (some (g.2 4 r.1)) 4 1 = some (some (g.2 5 r.1)) := by rw [gR_e (h.2.2 r hr).1]; rfl
theorem rt_2 (h : RKr g rs S) {r : RtV} (hr : r ∈ rs) : gI S (some (g.2 4 r.1)) 4 2 = some (b2i r.2.2.1) := by rw [gI_e (h.2.2 r hr).1]; rfl
theorem rt_3 (h : RKr g rs S) {r : RtV} (hr : r ∈ rs) : gR S (some (g.2 4 r.1)) 4 3 = some (r.2.2.2.1.map fun _ => g.2 6 r.1) := by rw [gR_e (h.2.2 r hr).1]; rfl
theorem rt_4 (h : RKr g rs S) {r : RtV} (hr : r ∈ rs) : gR S (some (g.2 4 r.1)) 4 4 = some (some (g.2 7 r.1)) := by rw [gR_e (h.2.2 r hr).1]; rfl
theorem rt_q (h : RKr g rs S) {r : RtV} (hr : r ∈ rs) : ∃ ts : List Nat, isLL S (g.2 5 r.1) (ts.map some) ∧ ts.length = r.2.1.length := by
  obtain ⟨ts, h1, h2, -⟩ := (h.2.2 r hr).2.1
  exact ⟨ts, h1, h2⟩
theorem rt_inj (h : RKr g rs S) {r r' : RtV} (hr : r ∈ rs) (hr' : r' ∈ rs) : (g.2 4 r.1 = g.2 4 r'.1) = (r.1 = r'.1) := by
  refine propext ⟨fun e => ?_, fun e => by rw [e]⟩
  have h1 := (h.2.2 r hr).2.2.2.2.1
  have h2 := (h.2.2 r' hr').2.2.2.2.1
  rw [e, h2] at h1
  exact (congrArg (·.2) h1).symm
theorem RKf.lt (h : RKf g f S) (hF : FR g S) (hk : k < fMd f) : g.2 2 k < S.2.1 := by
  by_cases e : g.2 2 k < S.2.1
  · exact e
  · have h1 := hF _ (Nat.le_of_not_lt e)
    rw [(h.2.2 k hk).2.2.1] at h1
    cases h1
theorem ow_lt (hF : FR g S) {t i : Nat} (h : g.1 a = (t, i)) (ht : t ≠ 0) : a < S.2.1 := by
  by_cases e : a < S.2.1
  · exact e
  · have h1 := hF _ (Nat.le_of_not_lt e)
    rw [h] at h1
    exact absurd h1 ht
/-- an iterator over the roots -/
theorem rt_it (h : RKr g rs S) (hF : FR g S) (h3 : rs.length ≤ 3) : ∃ S', h_J3_iterator S (some (g.2 21 0)) = some (some S.2.1, S') ∧ IT S' S.2.1 (g.2 21 0) (rs.map fun r => some (g.2 4 r.1)) 0 ∧ KX [0] [] 1 g S g S' := by
  obtain ⟨S', h1, h2, h4⟩ := ll_it h.1 (by rw [List.length_map]; omega) (ow_lt hF h.2.1 (by decide))
  exact ⟨S', h1, h2, KX_new hF h4 (by decide)⟩
theorem IT.has_lt {α : Type} {l : List α} {ad : α → Nat} {i it : Nat} {r : α} (h : IT S it a (l.map fun z => some (ad z)) i) (hr : l[i]? = some r) : h_J29_hasNext S (some it) = some (1, S) := by
  rw [it_has h, List.length_map]
  have := (List.getElem?_eq_some_iff.mp hr).1
  simp [this, b2i]
theorem IT.has_end {α : Type} {l : List α} {ad : α → Nat} {it : Nat} (h : IT S it a (l.map fun z => some (ad z)) l.length) : h_J29_hasNext S (some it) = some (0, S) := by
  rw [it_has h, List.length_map]
  simp [b2i]
theorem i10 : ((1 : Int32) = 0) = False := by simp
theorem find_and {α : Type} (l : List α) (b : Bool) (q : α → Bool) : l.find? (fun r => b && q r) = if b then l.find? q else none := by
  cases b with
  | true => simp
  | false => simp
theorem k_above (hn : RKn g nm S) (hf : RKf g f S) (h : RKr g rs S) (hc : RKc g S) (A : AC f rk) (hR : RS f rs) (hk : k < fMd f) : ∃ S', n_X1_above S (some (g.2 1 0)) (some (g.2 2 k)) = some ((abv f rs k).map (g.2 4), S') ∧ KX [0] [] 1 g S g S' := by
  obtain ⟨S0, i1, i2, i3⟩ := rt_it h hc.2.2.2 hR.1
  have how : (g.1 S.2.1).1 = 0 := hc.2.2.2 _ (Nat.le_refl _)
  have key := it_find (g := g) (fun r : RtV => !fGo f k && blw f k r.1) (fun m S0 => n_X1_above_b10 m S0 (some (g.2 2 k)) (some S.2.1)) (fun r S => some (some (g.2 4 r.1), S)) (fun S => some (none, S)) i2 how ?_ ?_
  · have e : n_X1_above S (some (g.2 1 0)) (some (g.2 2 k)) = n_X1_above_b10 FU S0 (some (g.2 2 k)) (some S.2.1) := by
      simp only [n_X1_above, kn_1 hn, ob_s, h.1.cl, gd_t, i1, bn_s]
    rw [e]
    have ea : abv f rs k = (rs.find? fun r : RtV => !fGo f k && blw f k r.1).map (·.1) := by
      rw [find_and]; unfold abv
      cases fGo f k <;> rfl
    rw [ea]
    rcases key with ⟨S', r, -, k2, k3, -, k5⟩ | ⟨S', k2, k3, -, k5⟩
    · exact ⟨S', by rw [k5, k2]; rfl, KX_tr i3 k3⟩
    · exact ⟨S', by rw [k5, k2]; rfl, KX_tr i3 k3⟩
  · intro m S1 hit hx
    simp only [n_X1_above_b10, hit.cl, gd_t, hit.has_end, bn_s, if_true]
  · intro m S1 S2 i r hr hit hx n1 n2 hx2
    have hm := List.mem_of_getElem? hr
    have x2 := KX_tr i3 hx2
    have hf2 := hf.kx x2
    have h2 := h.kx x2
    simp only [n_X1_above_b10, n_X1_above_b49, hit.cl, gd_t, hit.has_lt hr, bn_s, i10, if_false, n1, gcst_g (h2.cl hm), nd_8 hf2 hk, ob_s, b2i_0, rt_0 h2 hm, hf2.cl hk, k_isBelow hf2 A hk (hR.2 r hm)]
    rcases Bool.eq_false_or_eq_true (fGo f k) with b1 | b1
    · simp [b1]
    · rcases Bool.eq_false_or_eq_true (blw f k r.1) with b2 | b2 <;> simp [b1, b2]
theorem k_hasAll (hf : RKf g f S) (h : RKr g rs S) (A : AC f rk) (hR : RS f rs) {r : RtV} (hr : r ∈ rs) (hk : k < fMd f) : n_X6_hasAll S (some (g.2 4 r.1)) (some (g.2 2 k)) = some (b2i (hasA f r.1 k), S) := by
  have hrb := hR.2 r hr
  simp only [n_X6_hasAll, n_X6_hasAll_b19, rt_0 h hr, ob_s, nd_some hf hk hrb, hf.cl hk, gd_t, k_isBelow hf A hk hrb, bn_s, b2i_0, hasA, rt_b0, rt_b1]
  by_cases e : k = r.1
  · rw [if_pos e]; simp [e]
  · rw [if_neg e]
    rcases Bool.eq_false_or_eq_true (blw f k r.1) with b | b <;> simp [b, beq_false_of_ne e]
theorem foldl_or {α : Type} (l : List α) (q : α → Bool) (b : Bool) : l.foldl (fun c r => c || q r) b = (b || l.any q) := by
  induction l generalizing b with
  | nil => simp
  | cons x l ih => simp only [List.foldl_cons, ih, List.any_cons, Bool.or_assoc]
theorem k_isRoot (hn : RKn g nm S) (hf : RKf g f S) (h : RKr g rs S) (hc : RKc g S) (hR : RS f rs) (hk : k < fMd f) : ∃ S', n_X1_isRoot S (some (g.2 1 0)) (some (g.2 2 k)) = some (b2i (isR rs k), S') ∧ KX [0] [] 1 g S g S' := by
  obtain ⟨S0, i1, i2, i3⟩ := rt_it h hc.2.2.2 hR.1
  have how : (g.1 S.2.1).1 = 0 := hc.2.2.2 _ (Nat.le_refl _)
  obtain ⟨S', k1, k2⟩ := it_fold (g := g) (fun c (r : RtV) => c || r.1 == k) (fun m c S0 => n_X1_isRoot_b12 m S0 (some (g.2 2 k)) (b2i c) (some S.2.1)) (fun c S => some (b2i c, S)) i2 how (fun m S1 c hit hx => by
      simp only [n_X1_isRoot_b12, hit.cl, gd_t, hit.has_end, bn_s, if_true, rt_b, id]) (fun m S1 S2 i r c hr hit hx n1 n2 hx2 => by
      have hm := List.mem_of_getElem? hr
      have x2 := KX_tr i3 hx2
      have hf2 := hf.kx x2
      have h2 := h.kx x2
      simp only [n_X1_isRoot_b12, n_X1_isRoot_b45, n_X1_isRoot_b50, hit.cl, gd_t, hit.has_lt hr, bn_s, i10, if_false, n1, gcst_g (h2.cl hm), ob_s, b2i_0, rt_0 h2 hm, nd_some hf2 (hR.2 r hm) hk]
      cases c with
      | true => simp [b2i]
      | false =>
        by_cases e : r.1 = k
        · simp [e, b2i]
        · simp [e, beq_false_of_ne e, b2i]) false
  refine ⟨S', ?_, KX_tr i3 k1⟩
  rw [foldl_or, Bool.false_or] at k2
  simp only [n_X1_isRoot, kn_1 hn, ob_s, h.1.cl, gd_t, i1, bn_s]
  exact k2
theorem k_telling (hn : RKn g nm S) (h : RKr g rs S) (hc : RKc g S) (hT : RT f rs) : ∃ S', n_X1_telling S (some (g.2 1 0)) = some ((tellg rs).map fun r => g.2 4 r.1, S') ∧ KX [0] [] 1 g S g S' := by
  obtain ⟨S0, i1, i2, i3⟩ := rt_it h hc.2.2.2 hT.1
  have how : (g.1 S.2.1).1 = 0 := hc.2.2.2 _ (Nat.le_refl _)
  have key := it_find (g := g) (fun r : RtV => r.2.2.1 || !r.2.1.isEmpty) (fun m S0 => n_X1_telling_b10 m S0 (some S.2.1)) (fun r S => some (some (g.2 4 r.1), S)) (fun S => some (none, S)) i2 how ?_ ?_
  · have e : n_X1_telling S (some (g.2 1 0)) = n_X1_telling_b10 FU S0 (some S.2.1) := by
      simp only [n_X1_telling, kn_1 hn, ob_s, h.1.cl, gd_t, i1, bn_s]
    rw [e]
    unfold tellg
    rcases key with ⟨S', r, -, k2, k3, -, k5⟩ | ⟨S', k2, k3, -, k5⟩
    · exact ⟨S', by rw [k5, k2]; rfl, KX_tr i3 k3⟩
    · exact ⟨S', by rw [k5, k2]; rfl, KX_tr i3 k3⟩
  · intro m S1 hit hx
    simp only [n_X1_telling_b10, hit.cl, gd_t, hit.has_end, bn_s, if_true]
  · intro m S1 S2 i r hr hit hx n1 n2 hx2
    have hm := List.mem_of_getElem? hr
    have x2 := KX_tr i3 hx2
    have h2 := h.kx x2
    obtain ⟨ts, t1, t2⟩ := rt_q h2 hm
    have h8 := (hT.2 r hm).2.1
    simp only [n_X1_telling_b10, hit.cl, gd_t, hit.has_lt hr, bn_s, i10, if_false, n1, gcst_g (h2.cl hm), ob_s, b2i_0, rt_2 h2 hm, rt_1 h2 hm, t1.cl, ll_isEmpty t1 (by rw [List.length_map]; omega), List.length_map, t2]
    rcases Bool.eq_false_or_eq_true r.2.2.1 with b1 | b1
    · simp [b1]
    · cases hq : r.2.1 with
      | nil => simp [b1]
      | cons x l => simp [b1]
theorem k_crawling (hn : RKn g nm S) (h : RKr g rs S) (hc : RKc g S) (hT : RT f rs) : ∃ S', n_X1_crawling S (some (g.2 1 0)) = some ((crwlg rs).map fun r => g.2 4 r.1, S') ∧ KX [0] [] 1 g S g S' := by
  obtain ⟨S0, i1, i2, i3⟩ := rt_it h hc.2.2.2 hT.1
  have how : (g.1 S.2.1).1 = 0 := hc.2.2.2 _ (Nat.le_refl _)
  have key := it_find (g := g) (fun r : RtV => r.2.2.2.1.isSome) (fun m S0 => n_X1_crawling_b10 m S0 (some S.2.1)) (fun r S => some (some (g.2 4 r.1), S)) (fun S => some (none, S)) i2 how ?_ ?_
  · have e : n_X1_crawling S (some (g.2 1 0)) = n_X1_crawling_b10 FU S0 (some S.2.1) := by
      simp only [n_X1_crawling, kn_1 hn, ob_s, h.1.cl, gd_t, i1, bn_s]
    rw [e]
    unfold crwlg
    rcases key with ⟨S', r, -, k2, k3, -, k5⟩ | ⟨S', k2, k3, -, k5⟩
    · exact ⟨S', by rw [k5, k2]; rfl, KX_tr i3 k3⟩
    · exact ⟨S', by rw [k5, k2]; rfl, KX_tr i3 k3⟩
  · intro m S1 hit hx
    simp only [n_X1_crawling_b10, hit.cl, gd_t, hit.has_end, bn_s, if_true]
  · intro m S1 S2 i r hr hit hx n1 n2 hx2
    have hm := List.mem_of_getElem? hr
    have x2 := KX_tr i3 hx2
    have h2 := h.kx x2
    simp only [n_X1_crawling_b10, hit.cl, gd_t, hit.has_lt hr, bn_s, i10, if_false, n1, gcst_g (h2.cl hm), ob_s, rt_3 h2 hm]
    cases r.2.2.2.1 <;> simp
theorem k_rootAt (hn : RKn g nm S) (hf : RKf g f S) (h : RKr g rs S) (hc : RKc g S) (hR : RS f rs) (h6 : fMd f ≤ 60) (x : Int32) : ∃ S', n_X1_rootAt S (some (g.2 1 0)) x = some ((rtA rs x).elim (Sum.inr "java/lang/IndexOutOfBoundsException") (fun r => Sum.inl (some (g.2 4 r.1))), S') ∧ KX [0] [] 3 g S g S' := by
  obtain ⟨S0, i1, i2, i3⟩ := rt_it h hc.2.2.2 hR.1
  have how : (g.1 S.2.1).1 = 0 := hc.2.2.2 _ (Nat.le_refl _)
  have key := it_find (g := g) (fun r : RtV => nI r.1 == x) (fun m S0 => n_X1_rootAt_b10 m S0 x (some S.2.1)) (fun r S => some (Sum.inl (some (g.2 4 r.1)), S)) (fun S => some (Sum.inr "java/lang/IndexOutOfBoundsException", ssk S 6)) i2 how ?_ ?_
  · have e : n_X1_rootAt S (some (g.2 1 0)) x = n_X1_rootAt_b10 FU S0 x (some S.2.1) := by
      simp only [n_X1_rootAt, kn_1 hn, ob_s, h.1.cl, gd_t, i1, bn_s]
    rw [e]
    unfold rtA
    rcases key with ⟨S', r, -, k2, k3, -, k5⟩ | ⟨S', k2, k3, -, k5⟩
    · exact ⟨S', by rw [k5, k2]; rfl, KX_n (KX_tr i3 k3) (by decide)⟩
    · refine ⟨ssk S' 6, by rw [k5, k2]; rfl, KX_n (KX_tr (KX_tr i3 k3) (KX_ch (a := S.2.1) (Ch_ssk (c := 2) (by omega) (by omega)) (by decide) (by rw [how]; decide))) (by decide)⟩
  · intro m S1 hit hx
    simp only [n_X1_rootAt_b10, hit.cl, gd_t, hit.has_end, bn_s, if_true]
  · intro m S1 S2 i r hr hit hx n1 n2 hx2
    have hm := List.mem_of_getElem? hr
    have x2 := KX_tr i3 hx2
    have h2 := h.kx x2
    have hf2 := hf.kx x2
    simp only [n_X1_rootAt_b10, hit.cl, gd_t, hit.has_lt hr, bn_s, i10, if_false, n1, gcst_g (h2.cl hm), ob_s, rt_0 h2 hm, nd_0 hf2 (hR.2 r hm)]
    by_cases e : nI r.1 = x
    · simp [e]
    · simp [e, beq_false_of_ne e]
theorem k_wouldNest (hn : RKn g nm S) (hf : RKf g f S) (h : RKr g rs S) (hc : RKc g S) (A : AC f rk) (hR : RS f rs) (hk : k < fMd f) (hp : p < fMd f) : ∃ S', n_X1_wouldNest S (some (g.2 1 0)) (some (g.2 2 k)) (some (g.2 2 p)) = some (b2i (holR f rs k && rs.any fun r => hasA f r.1 p), S') ∧ KX [0] [] 1 g S g S' := by
  obtain ⟨S0, i1, i2, i3⟩ := rt_it h hc.2.2.2 hR.1
  have how : (g.1 S.2.1).1 = 0 := hc.2.2.2 _ (Nat.le_refl _)
  obtain ⟨S', k1, k2⟩ := it_fold (g := g) (fun (c : Bool × Bool) (r : RtV) => (c.1 || (r.1 == k || blw f r.1 k), c.2 || hasA f r.1 p)) (fun m c S0 => n_X1_wouldNest_b16 m S0 (some (g.2 2 k)) (some (g.2 2 p)) (b2i c.1) (b2i c.2) (some S.2.1)) (fun c S => some (b2i (c.1 && c.2), S)) i2 how (fun m S1 c hit hx => by
      simp only [n_X1_wouldNest_b16, hit.cl, gd_t, hit.has_end, bn_s, if_true, rt_b0, rt_b1, b2i_0]
      rcases c with ⟨c1, c2⟩
      cases c1 <;> cases c2 <;> rfl) (fun m S1 S2 i r c hr hit hx n1 n2 hx2 => by
      have hm := List.mem_of_getElem? hr
      have x2 := KX_tr i3 hx2
      have hf2 := hf.kx x2
      have h2 := h.kx x2
      have hrb := hR.2 r hm
      have h68 : ∀ z : Bool, n_X1_wouldNest_b68 (n_X1_wouldNest_b16 m) S2 (some (g.2 2 k)) (some (g.2 2 p)) (b2i c.2) (some S.2.1) (some (g.2 4 r.1)) (b2i z) = n_X1_wouldNest_b16 m S2 (some (g.2 2 k)) (some (g.2 2 p)) (b2i z) (b2i (c.2 || hasA f r.1 p)) (some S.2.1) := by
        intro z
        simp only [n_X1_wouldNest_b68, n_X1_wouldNest_b83, n_X1_wouldNest_b88, b2i_0, h2.cl hm, gd_t, k_hasAll hf2 h2 A hR hm hp, bn_s]
        rcases c with ⟨c1, c2⟩
        cases c2 with
        | true => rfl
        | false => rcases Bool.eq_false_or_eq_true (hasA f r.1 p) with b | b <;> simp [b, b2i]
      have h63 : n_X1_wouldNest_b63 (n_X1_wouldNest_b16 m) S2 (some (g.2 2 k)) (some (g.2 2 p)) (b2i c.2) (some S.2.1) (some (g.2 4 r.1)) = n_X1_wouldNest_b16 m S2 (some (g.2 2 k)) (some (g.2 2 p)) (b2i true) (b2i (c.2 || hasA f r.1 p)) (some S.2.1) := h68 true
      have h680 : n_X1_wouldNest_b68 (n_X1_wouldNest_b16 m) S2 (some (g.2 2 k)) (some (g.2 2 p)) (b2i c.2) (some S.2.1) (some (g.2 4 r.1)) 0 = n_X1_wouldNest_b16 m S2 (some (g.2 2 k)) (some (g.2 2 p)) (b2i false) (b2i (c.2 || hasA f r.1 p)) (some S.2.1) := h68 false
      simp only [n_X1_wouldNest_b16, hit.cl, gd_t, hit.has_lt hr, bn_s, i10, if_false, n1, gcst_g (h2.cl hm), ob_s, b2i_0, rt_0 h2 hm, nd_some hf2 hrb hk, hf2.cl hrb, k_isBelow hf2 A hrb hk, h63, h680]
      rcases Bool.eq_false_or_eq_true c.1 with b | b
      · simp [b]
      · by_cases e : r.1 = k
        · simp [b, e]
        · rcases Bool.eq_false_or_eq_true (blw f r.1 k) with b2 | b2 <;> simp [b, e, b2, beq_false_of_ne e]) (false, false)
  refine ⟨S', ?_, KX_tr i3 k1⟩
  have hfl : ∀ (l : List RtV) (c : Bool × Bool), l.foldl (fun (c : Bool × Bool) (r : RtV) => (c.1 || (r.1 == k || blw f r.1 k), c.2 || hasA f r.1 p)) c = (c.1 || l.any (fun r => r.1 == k || blw f r.1 k), c.2 || l.any fun r => hasA f r.1 p) := by
    intro l
    induction l with
    | nil => intro c; simp
    | cons x l ih => intro c; simp only [List.foldl_cons, ih, List.any_cons, Bool.or_assoc]
  rw [hfl] at k2
  simp only [Bool.false_or] at k2
  simp only [n_X1_wouldNest, kn_1 hn, ob_s, h.1.cl, gd_t, i1, bn_s]
  exact k2
end
