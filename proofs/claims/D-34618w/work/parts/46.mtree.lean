/-! roots do not nest: the first root above is the last; what the tree of nodes is like -/
section
variable {M : Nat} {S : St} {u v w : MM} {f : Fl} {rk : Nat → Nat} {rs : List RtV} {en : En} {ac : List AcV}
def RN (f : Fl) (rs : List RtV) : Prop := (rs.map (·.1)).Nodup ∧ ∀ r ∈ rs, ∀ r' ∈ rs, blw f r.1 r'.1 = false
theorem RN.inj (h : RN f rs) {i j : Nat} {a b : RtV} (hi : rs[i]? = some a) (hj : rs[j]? = some b) (e : a.1 = b.1) : i = j := by
  have hi' : (rs.map (·.1))[i]? = some a.1 := by rw [List.getElem?_map, hi]; rfl
  have hj' : (rs.map (·.1))[j]? = some b.1 := by rw [List.getElem?_map, hj]; rfl
  exact (List.getElem?_inj (List.getElem?_eq_some_iff.mp hi').1 h.1).mp (hi'.trans ((congrArg some e).trans hj'.symm))
/-- what lies above a node lies in a row -/
theorem blw_lin (A : AC f rk) {a b : Nat} : ∀ r n, n < fMd f → rk n ≤ r → blw f n a = true → blw f n b = true → a = b ∨ blw f a b = true ∨ blw f b a = true := by
  intro r
  induction r with
  | zero =>
    intro n hn hr h1
    rw [blw_eq A hn] at h1
    cases hp : fPa f n with
    | none => rw [hp] at h1; cases h1
    | some p => have := ((A n hn).2 p hp).2; omega
  | succ r ih =>
    intro n hn hr h1 h2
    rw [blw_eq A hn] at h1 h2
    cases hp : fPa f n with
    | none => rw [hp] at h1; cases h1
    | some p =>
      rw [hp] at h1 h2
      simp only [bel0, Bool.or_eq_true, beq_iff_eq] at h1 h2
      have hq := (A n hn).2 p hp
      rcases h1 with rfl | h1
      · rcases h2 with rfl | h2
        · exact Or.inl rfl
        · exact Or.inr (Or.inl h2)
      · rcases h2 with rfl | h2
        · exact Or.inr (Or.inr h1)
        · exact ih p hq.1 (by omega) h1 h2
theorem ovr_some (A : AC f rk) (hN : RN f rs) {n i : Nat} (hn : n < fMd f) (h : ovr f rs n = some i) : ∃ r, rs[i]? = some r ∧ abv f rs n = some r.1 := by
  unfold ovr at h
  split at h
  · cases h
  · next hg =>
    obtain ⟨-, r, hr, hb⟩ := lst_some h
    refine ⟨r, hr, ?_⟩
    simp only [abv]
    rw [if_neg hg]
    cases hf : rs.find? (fun r => blw f n r.1) with
    | none =>
      have := List.find?_eq_none.mp hf r (List.mem_of_getElem? hr)
      exact absurd hb this
    | some r' =>
      have hb' := List.find?_some hf
      have hm := List.mem_of_find?_eq_some hf
      have e : r'.1 = r.1 := by
        rcases blw_lin A (rk n) n hn (Nat.le_refl _) hb' hb with e | e | e
        · exact e
        · rw [hN.2 r' hm r (List.mem_of_getElem? hr)] at e; cases e
        · rw [hN.2 r (List.mem_of_getElem? hr) r' hm] at e; cases e
      simp [e]
theorem ovr_none {n : Nat} (h : ovr f rs n = none) : abv f rs n = none := by
  unfold ovr at h
  unfold abv
  split at h
  · next hg => simp [hg]
  · next hg =>
    rw [if_neg hg, Option.map_eq_none_iff]
    refine List.find?_eq_none.mpr fun r hr => ?_
    obtain ⟨i, hi⟩ := List.mem_iff_getElem?.mp hr
    have := lst_none h i r (List.getElem?_eq_some_iff.mp hi).1 hi
    simp [this]
theorem ovr_iff (A : AC f rk) (hN : RN f rs) {n : Nat} (hn : n < fMd f) : (ovr f rs n).isSome = (abv f rs n).isSome := by
  cases h : ovr f rs n with
  | none => rw [ovr_none h]
  | some i =>
    obtain ⟨r, -, h2⟩ := ovr_some A hN hn h
    rw [h2]; rfl
theorem prI_none {o : Option Nat} (ho : ∀ p, o = some p → p < 2 ^ 31) : (prI o = (-1 : Int32)) = (o = none) := by
  cases o with
  | none => simp [prI]
  | some p => simp [prI, nI_neg1 (ho p rfl)]
theorem lst_lt {α : Type} {p : α → Bool} {l : List α} {k i : Nat} (h : lst p l k = some i) : i < k := (lst_some h).1
theorem ovr_lt {n i : Nat} (h : ovr f rs n = some i) : i < rs.length := by
  unfold ovr at h
  split at h
  · cases h
  · exact lst_lt h
theorem updR_set (hN : (rs.map (·.1)).Nodup) {i : Nat} {r : RtV} (hi : rs[i]? = some r) (g : RtV → RtV) : updR rs r.1 g = rs.set i (g r) := by
  refine List.ext_getElem? fun j => ?_
  unfold updR
  rw [List.getElem?_map, List.getElem?_set]
  have hil := (List.getElem?_eq_some_iff.mp hi).1
  by_cases e : i = j
  · subst e; rw [hi]; simp [hil]
  · rw [if_neg e]
    cases hj : rs[j]? with
    | none => rfl
    | some r' =>
      have hne : r'.1 ≠ r.1 := fun z => e (by
        have hi' : (rs.map (·.1))[i]? = some r.1 := by rw [List.getElem?_map, hi]; rfl
        have hj' : (rs.map (·.1))[j]? = some r'.1 := by rw [List.getElem?_map, hj]; rfl
        exact (List.getElem?_inj (List.getElem?_eq_some_iff.mp hi').1 hN).mp (hi'.trans ((congrArg some z.symm).trans hj'.symm)))
      simp [hne]
theorem telS_set (hN : (rs.map (·.1)).Nodup) {i : Nat} {r : RtV} (hi : rs[i]? = some r) (k n : Nat) : telS rs (some r.1) k n = rs.set i (telR k n r) := updR_set hN hi _
theorem q_tell (A : AC f rk) (h : RMr rs u) (hT : RT f rs) (hN : RN f rs) (h6 : fMd f ≤ 60) {x : Nat} (hx : x < fMd f) {kd n : Nat} : ∃ v, n_X3_comes (mput M S u) (some M) (prI (ovr f rs x)) (nI kd) (nI n) = some ((), mput M S v) ∧ Ag [] [10, 11, 12, 13] u v ∧ RMr (telS rs (abv f rs x) kd n) v := by
  cases ho : ovr f rs x with
  | none => exact ⟨u, q_comes0 _ _, Ag_rf _ _ _, by rw [ovr_none ho]; exact h⟩
  | some i =>
    obtain ⟨r, h1, h2⟩ := ovr_some A hN hx ho
    obtain ⟨v, g1, g2, g3⟩ := q_comes (M := M) (S := S) h hT h6 h1 (kd := kd) (n := n)
    refine ⟨v, g1, g2, ?_⟩
    rw [h2, telS_set hN.1 h1]; exact g3
/-- beyond the nodes made -/
def RMz (f : Fl) (u : MM) : Prop := ∀ k, fMd f ≤ k → k < 60 → u.2 5 k = nI 0 ∧ u.2 7 k = b2i false
theorem RMz.ag {I P : List Nat} (h : RMz f u) (g : Ag I P u v) (h2 : ∀ p ∈ [5, 7], p ∉ P := by decide) : RMz f v := fun k h1 h3 => by
  rw [g.2 5 (h2 5 (by decide)), g.2 7 (h2 7 (by decide))]; exact h k h1 h3
/-- all of the reference's memory -/
def RA (s : Sg) (u : MM) : Prop := RM s u ∧ RMz (zF s) u
end
/-! what the calls answer: a code (0: fine), an answer, the state -/
abbrev Ro := Int32 × Int32 × Sg
def mkF (f : Fl) (p : Nat) (nm : Int32) (fo : Bool) : Fl := (fMd f + 1, fu (fFo f) (fMd f) fo, fu (fPa f) (fMd f) (some p), fu (fNm f) (fMd f) nm, fu (fEd f) (fMd f) 1, fu (fMk f) (fMd f) [], fu (fLk f) (fMd f) false, fu (fPp f) (fMd f) 15, fu (fGo f) (fMd f) false)
def opMake (s : Sg) (x nm : Int32) (fo : Bool) : Ro := match foA (zF s) x with
  | none => (1, 0, s)
  | some p => if inI nm 97 122 = false then (2, 0, s) else if tkn (zF s) p nm none = true ∨ fMd (zF s) = 60 then (3, 0, s) else (0, nI (fMd (zF s)), wR (wF s (mkF (zF s) p nm fo)) (telS (zR s) (abv (mkF (zF s) p nm fo) (zR s) (fMd (zF s))) 0 (fMd (zF s))))
def wrtS (s : Sg) (n : Nat) (ms : List Int32) : Sg := wR (wF s (fwEd (fwMk (zF s) (fu (fMk (zF s)) n ms)) (fu (fEd (zF s)) n (fEd (zF s) n + 1)))) (telS (zR s) (abv (zF s) (zR s) n) 1 n)
def isMk (x : Int32) : Bool := inI x (-3) 99 && !(x == -1)
def opWrite (s : Sg) (x m : Int32) : Ro := match fiA (zF s) x with
  | none => (1, 0, s)
  | some n => if isMk m = false then (2, 0, s) else if fLk (zF s) n = true ∨ (fMk (zF s) n).length = 20 then (3, 0, s) else (0, nI (fEd (zF s) n + 1), wrtS s n (fMk (zF s) n ++ [m]))
def opEmpty (s : Sg) (x : Int32) : Ro := match fiA (zF s) x with
  | none => (1, 0, s)
  | some n => if fLk (zF s) n = true then (2, 0, s) else (0, nI (fMk (zF s) n).length, wrtS s n [])
def movF (f : Fl) (n p : Nat) (nm : Int32) : Fl := fwNm (fwPa f (fu (fPa f) n (some p))) (fu (fNm f) n nm)
def movR (f f' : Fl) (rs : List RtV) (n : Nat) : List RtV := telS (if abv f rs n = abv f' rs n then rs else telS rs (abv f rs n) 2 n) (abv f' rs n) 0 n
def opMove (s : Sg) (x y nm : Int32) : Ro := match ndA (zF s) x with
  | none => (1, 0, s)
  | some n => if n = 0 then (1, 0, s) else match foA (zF s) y with
    | none => (1, 0, s)
    | some p => if inI nm 97 122 = false then (2, 0, s) else if hasA (zF s) n p = true ∨ tkn (zF s) p nm (some n) = true ∨ (holR (zF s) (zR s) n = true ∧ (isR (zR s) p = true ∨ (abv (zF s) (zR s) p).isSome = true)) then (3, 0, s) else (0, prI (fPa (zF s) n), wR (wF s (movF (zF s) n p nm)) (movR (zF s) (movF (zF s) n p nm) (zR s) n))
def rmvF (f : Fl) (n : Nat) : Fl := fwGo f (fun k => fGo f k || (decide (k < fMd f) && hasA f n k))
def opRemove (s : Sg) (x : Int32) : Ro := match ndA (zF s) x with
  | none => (1, 0, s)
  | some n => if n = 0 then (1, 0, s) else
    (0, nI (cnB (fun k => !fGo (zF s) k && hasA (zF s) n k) (fMd (zF s))), wA (wR (wF s (rmvF (zF s) n)) ((telS (zR s) (abv (zF s) (zR s) n) 2 n).filter fun r => !fGo (rmvF (zF s) n) r.1)) (if (zR s).any (fun r => fGo (rmvF (zF s) n) r.1) then lkA (zE s) (zA s) 60 else zA s))
def opLock (s : Sg) (x : Int32) (b : Bool) : Ro := match fiA (zF s) x with
  | none => (1, 0, s)
  | some n => (0, b2i (fLk (zF s) n), wF s (fwLk (zF s) (fu (fLk (zF s)) n b)))
def opPeople (s : Sg) (x y : Int32) : Ro := match ndA (zF s) x with
  | none => (1, 0, s)
  | some n => if inI y 0 15 = false then (2, 0, s) else (0, fPp (zF s) n, wF s (fwPp (zF s) (fu (fPp (zF s)) n y)))
def opMayRead (s : Sg) (x y : Int32) : Ro := if inI x 0 3 = false then (1, 0, s) else match ndA (zF s) y with
  | none => (1, 0, s)
  | some n => (0, b2i (mrd (zF s) x n), s)
def opNodes (s : Sg) : Ro := (0, nI (cnB (fun k => !fGo (zF s) k) (fMd (zF s))), s)
/-! projections of changed files -/
theorem fMd_fwPa (f : Fl) (v : Nat → Option Nat) : fMd (fwPa f v) = fMd f := rfl
theorem fFo_fwPa (f : Fl) (v : Nat → Option Nat) : fFo (fwPa f v) = fFo f := rfl
theorem fPa_fwPa (f : Fl) (v : Nat → Option Nat) : fPa (fwPa f v) = v := rfl
theorem fNm_fwPa (f : Fl) (v : Nat → Option Nat) : fNm (fwPa f v) = fNm f := rfl
theorem fEd_fwPa (f : Fl) (v : Nat → Option Nat) : fEd (fwPa f v) = fEd f := rfl
theorem fMk_fwPa (f : Fl) (v : Nat → Option Nat) : fMk (fwPa f v) = fMk f := rfl
theorem fLk_fwPa (f : Fl) (v : Nat → Option Nat) : fLk (fwPa f v) = fLk f := rfl
theorem fPp_fwPa (f : Fl) (v : Nat → Option Nat) : fPp (fwPa f v) = fPp f := rfl
theorem fGo_fwPa (f : Fl) (v : Nat → Option Nat) : fGo (fwPa f v) = fGo f := rfl
theorem fMd_fwNm (f : Fl) (v : Nat → Int32) : fMd (fwNm f v) = fMd f := rfl
theorem fFo_fwNm (f : Fl) (v : Nat → Int32) : fFo (fwNm f v) = fFo f := rfl
theorem fPa_fwNm (f : Fl) (v : Nat → Int32) : fPa (fwNm f v) = fPa f := rfl
theorem fNm_fwNm (f : Fl) (v : Nat → Int32) : fNm (fwNm f v) = v := rfl
theorem fEd_fwNm (f : Fl) (v : Nat → Int32) : fEd (fwNm f v) = fEd f := rfl
theorem fMk_fwNm (f : Fl) (v : Nat → Int32) : fMk (fwNm f v) = fMk f := rfl
theorem fLk_fwNm (f : Fl) (v : Nat → Int32) : fLk (fwNm f v) = fLk f := rfl
theorem fPp_fwNm (f : Fl) (v : Nat → Int32) : fPp (fwNm f v) = fPp f := rfl
theorem fGo_fwNm (f : Fl) (v : Nat → Int32) : fGo (fwNm f v) = fGo f := rfl
theorem fMd_fwEd (f : Fl) (v : Nat → Nat) : fMd (fwEd f v) = fMd f := rfl
theorem fFo_fwEd (f : Fl) (v : Nat → Nat) : fFo (fwEd f v) = fFo f := rfl
theorem fPa_fwEd (f : Fl) (v : Nat → Nat) : fPa (fwEd f v) = fPa f := rfl
theorem fNm_fwEd (f : Fl) (v : Nat → Nat) : fNm (fwEd f v) = fNm f := rfl
theorem fEd_fwEd (f : Fl) (v : Nat → Nat) : fEd (fwEd f v) = v := rfl
theorem fMk_fwEd (f : Fl) (v : Nat → Nat) : fMk (fwEd f v) = fMk f := rfl
theorem fLk_fwEd (f : Fl) (v : Nat → Nat) : fLk (fwEd f v) = fLk f := rfl
theorem fPp_fwEd (f : Fl) (v : Nat → Nat) : fPp (fwEd f v) = fPp f := rfl
theorem fGo_fwEd (f : Fl) (v : Nat → Nat) : fGo (fwEd f v) = fGo f := rfl
theorem fMd_fwMk (f : Fl) (v : Nat → List Int32) : fMd (fwMk f v) = fMd f := rfl
theorem fFo_fwMk (f : Fl) (v : Nat → List Int32) : fFo (fwMk f v) = fFo f := rfl
theorem fPa_fwMk (f : Fl) (v : Nat → List Int32) : fPa (fwMk f v) = fPa f := rfl
theorem fNm_fwMk (f : Fl) (v : Nat → List Int32) : fNm (fwMk f v) = fNm f := rfl
theorem fEd_fwMk (f : Fl) (v : Nat → List Int32) : fEd (fwMk f v) = fEd f := rfl
theorem fMk_fwMk (f : Fl) (v : Nat → List Int32) : fMk (fwMk f v) = v := rfl
theorem fLk_fwMk (f : Fl) (v : Nat → List Int32) : fLk (fwMk f v) = fLk f := rfl
theorem fPp_fwMk (f : Fl) (v : Nat → List Int32) : fPp (fwMk f v) = fPp f := rfl
theorem fGo_fwMk (f : Fl) (v : Nat → List Int32) : fGo (fwMk f v) = fGo f := rfl
theorem fMd_fwLk (f : Fl) (v : Nat → Bool) : fMd (fwLk f v) = fMd f := rfl
theorem fFo_fwLk (f : Fl) (v : Nat → Bool) : fFo (fwLk f v) = fFo f := rfl
theorem fPa_fwLk (f : Fl) (v : Nat → Bool) : fPa (fwLk f v) = fPa f := rfl
theorem fNm_fwLk (f : Fl) (v : Nat → Bool) : fNm (fwLk f v) = fNm f := rfl
theorem fEd_fwLk (f : Fl) (v : Nat → Bool) : fEd (fwLk f v) = fEd f := rfl
theorem fMk_fwLk (f : Fl) (v : Nat → Bool) : fMk (fwLk f v) = fMk f := rfl
theorem fLk_fwLk (f : Fl) (v : Nat → Bool) : fLk (fwLk f v) = v := rfl
theorem fPp_fwLk (f : Fl) (v : Nat → Bool) : fPp (fwLk f v) = fPp f := rfl
theorem fGo_fwLk (f : Fl) (v : Nat → Bool) : fGo (fwLk f v) = fGo f := rfl
theorem fMd_fwPp (f : Fl) (v : Nat → Int32) : fMd (fwPp f v) = fMd f := rfl
theorem fFo_fwPp (f : Fl) (v : Nat → Int32) : fFo (fwPp f v) = fFo f := rfl
theorem fPa_fwPp (f : Fl) (v : Nat → Int32) : fPa (fwPp f v) = fPa f := rfl
theorem fNm_fwPp (f : Fl) (v : Nat → Int32) : fNm (fwPp f v) = fNm f := rfl
theorem fEd_fwPp (f : Fl) (v : Nat → Int32) : fEd (fwPp f v) = fEd f := rfl
theorem fMk_fwPp (f : Fl) (v : Nat → Int32) : fMk (fwPp f v) = fMk f := rfl
theorem fLk_fwPp (f : Fl) (v : Nat → Int32) : fLk (fwPp f v) = fLk f := rfl
theorem fPp_fwPp (f : Fl) (v : Nat → Int32) : fPp (fwPp f v) = v := rfl
theorem fGo_fwPp (f : Fl) (v : Nat → Int32) : fGo (fwPp f v) = fGo f := rfl
theorem fMd_fwGo (f : Fl) (v : Nat → Bool) : fMd (fwGo f v) = fMd f := rfl
theorem fFo_fwGo (f : Fl) (v : Nat → Bool) : fFo (fwGo f v) = fFo f := rfl
theorem fPa_fwGo (f : Fl) (v : Nat → Bool) : fPa (fwGo f v) = fPa f := rfl
theorem fNm_fwGo (f : Fl) (v : Nat → Bool) : fNm (fwGo f v) = fNm f := rfl
theorem fEd_fwGo (f : Fl) (v : Nat → Bool) : fEd (fwGo f v) = fEd f := rfl
theorem fMk_fwGo (f : Fl) (v : Nat → Bool) : fMk (fwGo f v) = fMk f := rfl
theorem fLk_fwGo (f : Fl) (v : Nat → Bool) : fLk (fwGo f v) = fLk f := rfl
theorem fPp_fwGo (f : Fl) (v : Nat → Bool) : fPp (fwGo f v) = fPp f := rfl
theorem fGo_fwGo (f : Fl) (v : Nat → Bool) : fGo (fwGo f v) = v := rfl
theorem fMd_mkF (f : Fl) (p : Nat) (nm : Int32) (fo : Bool) : fMd (mkF f p nm fo) = fMd f + 1 := rfl
theorem fFo_mkF (f : Fl) (p : Nat) (nm : Int32) (fo : Bool) : fFo (mkF f p nm fo) = fu (fFo f) (fMd f) fo := rfl
theorem fPa_mkF (f : Fl) (p : Nat) (nm : Int32) (fo : Bool) : fPa (mkF f p nm fo) = fu (fPa f) (fMd f) (some p) := rfl
theorem fNm_mkF (f : Fl) (p : Nat) (nm : Int32) (fo : Bool) : fNm (mkF f p nm fo) = fu (fNm f) (fMd f) nm := rfl
theorem fEd_mkF (f : Fl) (p : Nat) (nm : Int32) (fo : Bool) : fEd (mkF f p nm fo) = fu (fEd f) (fMd f) 1 := rfl
theorem fMk_mkF (f : Fl) (p : Nat) (nm : Int32) (fo : Bool) : fMk (mkF f p nm fo) = fu (fMk f) (fMd f) [] := rfl
theorem fLk_mkF (f : Fl) (p : Nat) (nm : Int32) (fo : Bool) : fLk (mkF f p nm fo) = fu (fLk f) (fMd f) false := rfl
theorem fPp_mkF (f : Fl) (p : Nat) (nm : Int32) (fo : Bool) : fPp (mkF f p nm fo) = fu (fPp f) (fMd f) 15 := rfl
theorem fGo_mkF (f : Fl) (p : Nat) (nm : Int32) (fo : Bool) : fGo (mkF f p nm fo) = fu (fGo f) (fMd f) false := rfl
