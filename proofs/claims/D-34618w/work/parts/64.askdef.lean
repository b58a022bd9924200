/-! questions: what is asked, and what the reference answers -/
def okW (w s2 : Int32) : Bool := inI w 0 99 && inI s2 (-1) 99
def ofn (l : List Int32) (w : Int32) : Nat := l.countP fun x => x == w
def hasW (l : List Int32) (w s2 : Int32) : Bool := decide (0 < ofn l w) && (s2 == -1 || decide (0 < ofn l s2))
def parW (l : List Int32) (w s2 : Int32) : Bool := exB (fun k => l[k]? == some w && l[k + 1]? == some s2) (l.length - 1)
def scr (l : List Int32) (w s2 : Int32) : Nat := ofn l w + (if s2 = -1 then 0 else ofn l s2) + (if parW l w s2 then 10 else 0)
def foO (x : Int32) : Option Nat := if x = -1 then none else some x.toNatClampNeg
def isAn (s : Sg) (p w s2 : Int32) (fo : Option Nat) (k : Nat) : Bool := !fGo (zF s) k && ((zE s k).isSome && !fFo (zF s) k && hasW (eWd (zE s) k) w s2) && (match fo with
  | none => true
  | some a => knb (zR s) (zE s) k a) && mrd (zF s) p k
def askC (s : Sg) (p w s2 x : Int32) : Int32 := if inI p 0 3 = true ∧ inI x (-1) (nI (fMd (zF s)) - 1) = true then (if okW w s2 then 0 else 2) else 1
def opAnswers (s : Sg) (p w s2 x : Int32) : Ro := if askC s p w s2 x = 0 then (0, nI (cnB (isAn s p w s2 (foO x)) (fMd (zF s))), s) else (askC s p w s2 x, 0, s)
def anw (s : Sg) (p w s2 : Int32) (fo : Option Nat) (k : Nat) : Bool := match abv (zF s) (zR s) k with
  | none => false
  | some r => !fFo (zF s) k && (match fo with
    | none => true
    | some a => blw (zF s) k a && (a == r || blw (zF s) a r)) && mrd (zF s) p k && hasW (takW (zN s) (fMk (zF s) k)) w s2
def opAnew (s : Sg) (p w s2 x : Int32) : Ro := if askC s p w s2 x = 0 then (0, nI (cnB (anw s p w s2 (foO x)) (fMd (zF s))), s) else (askC s p w s2 x, 0, s)
def sck (s : Sg) (w s2 : Int32) (k : Nat) : Nat := scr (eWd (zE s) k) w s2
def rnk (s : Sg) (p w s2 : Int32) (k : Nat) : Nat := cnB (fun b => !(b == k) && isAn s p w s2 none b && (decide (sck s w s2 k < sck s w s2 b) || (sck s w s2 b == sck s w s2 k && decide (b < k)))) (fMd (zF s))
def opAnswer (s : Sg) (p w s2 pl : Int32) : Ro := if inI p 0 3 = false then (1, 0, s) else if okW w s2 = false then (2, 0, s) else match (List.range (fMd (zF s))).find? fun k => isAn s p w s2 none k && nI (rnk s p w s2 k) == pl with
  | none => (1, 0, s)
  | some k => (0, nI (100 * sck s w s2 k + k), s)
def dif (a b : Nat) : Nat := if b ≤ a then a - b else b - a
def mnn (a b : Nat) : Nat := if b ≤ a then b else a
def clsr (a b c d : Nat) : Bool := if dif a b = dif c d then (if mnn a b = mnn c d then decide (a < c) else decide (mnn a b < mnn c d)) else decide (dif a b < dif c d)
def clB (a k : Nat) : Option (Nat × Nat) → Bool
  | none => true
  | some c => clsr a k c.1 c.2
def clI (l : List Int32) (w s2 : Int32) (a : Nat) (best : Option (Nat × Nat)) : Nat → Option (Nat × Nat)
  | 0 => best
  | k + 1 => if a ≠ k ∧ l[a]? = some w ∧ l[k]? = some s2 ∧ clB a k (clI l w s2 a best k) = true then some (a, k) else clI l w s2 a best k
def clO (l : List Int32) (w s2 : Int32) : Nat → Option (Nat × Nat)
  | 0 => none
  | a + 1 => clI l w s2 a (clO l w s2 a) l.length
def clV (o : Option (Nat × Nat)) : Int32 := match o with
  | none => -1
  | some c => nI (100 * c.1 + c.2)
def opClosest (s : Sg) (p x w s2 : Int32) : Ro := if inI p 0 3 = false then (1, 0, s) else match fiA (zF s) x with
  | none => (1, 0, s)
  | some n => if mrd (zF s) p n = false then (1, 0, s) else if (inI w 0 99 && inI s2 0 99) = false then (2, 0, s) else (0, clV (clO (eWd (zE s) n) w s2 (eWd (zE s) n).length), s)
section
variable {M : Nat} {S : St} {u v w : MM} {f f' : Fl} {rs rs' : List RtV} {en : En} {ac : List AcV} {s : Sg} {rk rk' : Nat → Nat} {l : List Int32} {x y : Int32} {n : Nat}
/-- the words of an entry, in the reference -/
def WDp (n : Nat) (l : List Int32) (u : MM) : Prop := l.length ≤ 20 ∧ u.2 22 n = nI l.length ∧ ∀ j x, l[j]? = some x → u.2 23 (20 * n + j) = x
theorem RMe.wd (he : RMe f en u) (hE : ES f en) (h6 : fMd f ≤ 60) {e : EnV} (h : en n = some e) (hf : fFo f n = false) : WDp n e.2.2.2 u := by
  obtain ⟨e1, e2, e3, e4⟩ := hE n e h
  obtain ⟨-, h2⟩ := he n (by omega)
  obtain ⟨-, -, -, h3⟩ := h2 e h
  exact ⟨e4, h3 hf⟩
theorem ofn_le (l : List Int32) (x : Int32) : ofn l x ≤ l.length := List.countP_le_length
theorem q_often (h : WDp n l u) (n60 : n < 60) (x : Int32) : n_X3_often (mput M S u) (some M) (nI n) x = some (nI (ofn l x), mput M S u) := by
  obtain ⟨h1, h2, h3⟩ := h
  unfold n_X3_often
  have key := lp_u0 (fun m k => n_X3_often_b5 m (mput M S u) (some M) (nI n) x (nI (ofn (l.take k) x)) (nI k)) l.length (some (nI (ofn l x), mput M S u)) ?_ ?_ (m := FU) (by simp only [FU]; omega)
  · simp only [List.take_zero, nI_0] at key
    exact key
  · intro m k hk
    have hk2 : l[k]? = some l[k] := List.getElem?_eq_getElem hk
    have ht : l.take (k + 1) = l.take k ++ [l[k]] := List.take_succ_eq_append_getElem hk
    simp only [n_X3_often_b5, n_X3_often_b38, mR_26, ob_s, ma_22 n60, h2, nI_leE (show l.length < 2 ^ 31 by omega) (show k < 2 ^ 31 by omega), mR_27, li_20, nI_mul, nI_add, ma_23 (show 20 * n + k < 1200 by omega), h3 k _ hk2, nI_1]
    rw [if_neg (by omega), ht]
    simp only [ofn, List.countP_append, List.countP_cons, List.countP_nil]
    by_cases e : l[k] = x
    · rw [if_pos e]; simp [e]
    · rw [if_neg e, Int32.add_zero]; simp [beq_false_of_ne e]
  · intro m
    simp only [n_X3_often_b5, mR_26, ob_s, ma_22 n60, h2, nI_leE (show l.length < 2 ^ 31 by omega) (show l.length < 2 ^ 31 by omega), Nat.le_refl, if_true, rt_i, id, List.take_length]
theorem q_has (he : RMe f en u) (hf : RMf f u) (hE : ES f en) (h6 : fMd f ≤ 60) (hn : n < fMd f) (x y : Int32) : n_X3_has (mput M S u) (some M) (nI n) x y = some (b2i ((en n).isSome && !fFo f n && hasW (eWd en n) x y), mput M S u) := by
  have n60 : n < 60 := by omega
  simp only [n_X3_has, mR_22, ob_s, ma_18 n60, (he n n60).1, b2i_0, mR_4, ma_1 n60, hf.fo hn, mg_c, gd_t]
  cases hen : en n with
  | none => simp [rt_b0]
  | some e =>
    rcases Bool.eq_false_or_eq_true (fFo f n) with b | b
    · simp [b, rt_b0]
    · have hw := he.wd hE h6 hen b
      have hl := hw.1
      have l1 := ofn_le e.2.2.2 x
      have l2 := ofn_le e.2.2.2 y
      simp only [q_often hw n60, bn_s, nI_le0 (show ofn e.2.2.2 x < 2 ^ 31 by omega), nI_le0 (show ofn e.2.2.2 y < 2 ^ 31 by omega), n_X3_has_b41, rt_b0, rt_b1, id, b, hasW, eWd, hen, Option.isSome_some]
      by_cases c1 : ofn e.2.2.2 x = 0
      · simp [c1]
      · by_cases c2 : y = -1
        · simp [c1, c2, Nat.pos_of_ne_zero c1]
        · by_cases c3 : ofn e.2.2.2 y = 0
          · simp [c1, c2, c3, mg_c, beq_false_of_ne c2]
          · simp [c1, c2, c3, mg_c, Nat.pos_of_ne_zero c1, Nat.pos_of_ne_zero c3]
theorem q_score (h : WDp n l u) (n60 : n < 60) (x y : Int32) : n_X3_score (mput M S u) (some M) (nI n) x y = some (nI (scr l x y), mput M S u) := by
  have hh := h
  obtain ⟨h1, h2, h3⟩ := h
  have l1 := ofn_le l x
  have l2 := ofn_le l y
  have key : ∀ t : Nat, n_X3_score_b30 FU (mput M S u) (some M) (nI n) x y (nI t) 0 0 = some (nI (t + if parW l x y then 10 else 0), mput M S u) := by
    intro t
    have key := lp_u0 (fun m k => n_X3_score_b30 m (mput M S u) (some M) (nI n) x y (nI t) (b2i (exB (fun k => l[k]? == some x && l[k + 1]? == some y) k)) (nI k)) (l.length - 1) (some (nI (t + if parW l x y then 10 else 0), mput M S u)) ?_ ?_ (m := FU) (by simp only [FU]; omega)
    · simp only [exB, b2i_f, nI_0] at key
      exact key
    · intro m k hk
      have hk1 : k < l.length := by omega
      have hk3 : k + 1 < l.length := by omega
      have hk2 : l[k]? = some l[k] := List.getElem?_eq_getElem hk1
      have hk4 : l[k + 1]? = some l[k + 1] := List.getElem?_eq_getElem hk3
      simp only [n_X3_score_b30, n_X3_score_b82, n_X3_score_b86, n_X3_score_b87, mR_26, ob_s, ma_22 n60, h2, nI_1, nI_leE (show l.length < 2 ^ 31 by omega) (show k + 1 < 2 ^ 31 by omega), mR_27, li_20, nI_mul, nI_add, ma_23 (show 20 * n + k < 1200 by omega), ma_23 (show 20 * n + k + 1 < 1200 by omega), h3 k _ hk2, show u.2 23 (20 * n + k + 1) = l[k + 1] from h3 (k + 1) _ hk4, b2i_0]
      rw [if_neg (by omega)]
      simp only [exB, hk2, hk4]
      rcases Bool.eq_false_or_eq_true (exB (fun k => l[k]? == some x && l[k + 1]? == some y) k) with b | b
      · simp [b, b2i_t]
      · by_cases e1 : l[k] = x
        · by_cases e2 : l[k + 1] = y
          · simp [b, e1, e2, b2i_t]
          · simp [b, e1, e2, b2i_f, beq_false_of_ne e2]
        · simp [b, e1, b2i_f, beq_false_of_ne e1]
    · intro m
      simp only [n_X3_score_b30, mR_26, ob_s, ma_22 n60, h2, nI_1, nI_leE (show l.length < 2 ^ 31 by omega) (show l.length - 1 + 1 < 2 ^ 31 by omega), b2i_0, rt_i, id]
      rw [if_pos (by omega)]
      rw [show exB (fun k => l[k]? == some x && l[k + 1]? == some y) (l.length - 1) = parW l x y from rfl]
      rcases Bool.eq_false_or_eq_true (parW l x y) with b | b
      · simp only [b, Bool.true_eq_false, if_false, if_true]
        rw [show (10 : Int32) = nI 10 by decide +kernel, nI_add]
      · simp [b]
  simp only [n_X3_score, mg_c, gd_t, q_often hh n60, bn_s, n_X3_score_b21, scr]
  by_cases c : y = -1
  · rw [if_pos c, if_pos c, Int32.add_zero]; exact key _
  · rw [if_neg c, if_neg c, nI_add]; exact key _
theorem q_isAnswer (hI : IW s rk) (hs : RA s u) (hn : n < fMd (zF s)) (p x y : Int32) {z : Int32} {fo : Option Nat} (hz : z = prI fo) (hfo : ∀ a, fo = some a → a < fMd (zF s)) : n_X3_isAnswer (mput M S u) (some M) (nI n) p x y z = some (b2i (isAn s p x y fo n), mput M S u) := by
  obtain ⟨A, h6, hT, hN, hB, hE, hF, hS, hF1, hE0, hW⟩ := hI
  obtain ⟨⟨hf, hr, he, ha, hsg, hw, hnn⟩, -⟩ := hs
  have n60 : n < 60 := by omega
  subst hz
  simp only [n_X3_isAnswer, n_X3_isAnswer_b36, mR_3, ob_s, ma_0 n60, hf.go hn, b2i_0, mg_c, gd_t, q_has he hf hE h6 hn, bn_s, q_mayReadAt hf A h6 hn, isAn]
  rcases Bool.eq_false_or_eq_true (fGo (zF s) n) with b1 | b1
  · simp [b1, rt_b0]
  · rcases Bool.eq_false_or_eq_true ((zE s n).isSome && !fFo (zF s) n && hasW (eWd (zE s) n) x y) with b2 | b2
    · cases fo with
      | none =>
        simp only [prI_n, if_true, b1, b2]
        rcases Bool.eq_false_or_eq_true (mrd (zF s) p n) with b3 | b3 <;> simp [b3, rt_b0, rt_b1]
      | some a =>
        have ha := hfo a rfl
        simp only [prI_s, nI_e1 (show a < 2 ^ 31 by omega), if_false, q_liesBelow hr hT he hE h6 hn (show a < 60 by omega), bn_s, b2i_0, b1, b2]
        rcases Bool.eq_false_or_eq_true (knb (zR s) (zE s) n a) with b4 | b4
        · rcases Bool.eq_false_or_eq_true (mrd (zF s) p n) with b3 | b3 <;> simp [b3, b4, rt_b0, rt_b1, mg_c, gd_t, q_mayReadAt hf A h6 hn, bn_s, b2i_0]
        · simp [b4, rt_b0]
    · simp [b1, b2, rt_b0]
end
