/-! the reference's memory: its numbers by field, its arrays by place (in the order in which they are made) -/
abbrev MM : Type := (Nat → Int32) × (Nat → Nat → Int32)
def adr (M p : Nat) : Nat := M + 1 + p
def mkd (p : Nat) : Nat := ([1, 1, 0, 2, 0, 0, 0, 1, 0, 0, 0, 0, 0, 1, 1, 0, 0, 1, 1, 0, 2, 0, 0, 0, 0, 0, 1, 0, 0, 1, 1, 1, 0][p]?).getD 0
def mln (p : Nat) : Nat := ([60, 60, 60, 60, 60, 60, 1200, 60, 60, 4, 4, 32, 32, 4, 4, 4, 240, 240, 60, 60, 60, 60, 60, 1200, 60, 60, 60, 600, 600, 600, 60, 60, 20][p]?).getD 0
def mfl (M : Nat) (u : Nat → Int32) : List TV := [vI (u 0), vI (u 1), vI (u 2), vR (some (adr M 0)), vR (some (adr M 1)), vR (some (adr M 2)), vR (some (adr M 3)), vR (some (adr M 4)), vR (some (adr M 5)), vR (some (adr M 6)), vR (some (adr M 7)), vR (some (adr M 8)), vI (u 12), vR (some (adr M 9)), vR (some (adr M 10)), vR (some (adr M 11)), vR (some (adr M 12)), vR (some (adr M 13)), vR (some (adr M 14)), vR (some (adr M 15)), vR (some (adr M 16)), vR (some (adr M 17)), vR (some (adr M 18)), vR (some (adr M 19)), vR (some (adr M 20)), vR (some (adr M 21)), vR (some (adr M 22)), vR (some (adr M 23)), vI (u 28), vI (u 29), vI (u 30), vR (some (adr M 24)), vR (some (adr M 25)), vR (some (adr M 26)), vI (u 34), vI (u 35), vI (u 36), vI (u 37), vR (some (adr M 27)), vR (some (adr M 28)), vR (some (adr M 29)), vI (u 41), vR (some (adr M 30)), vR (some (adr M 31)), vI (u 44), vR (some (adr M 32))]
def mput (M : Nat) (S : St) (u : MM) : St := (fun a => if a = M then some (cO 15 (mfl M u.1)) else if M < a ∧ a < M + 34 then some (cA (mkd (a - M - 1)) (mln (a - M - 1)) (fun i => vI (u.2 (a - M - 1) i))) else S.1 a, S.2)
def ua (u : MM) (p i : Nat) (x : Int32) : MM := (u.1, fun q j => if q = p ∧ j = i then x else u.2 q j)
def ui (u : MM) (k : Nat) (x : Int32) : MM := (fun j => if j = k then x else u.1 j, u.2)
theorem ua_1 (u : MM) (p i : Nat) (x : Int32) : (ua u p i x).1 = u.1 := rfl
theorem ui_2 (u : MM) (k : Nat) (x : Int32) : (ui u k x).2 = u.2 := rfl
theorem ui_1 (u : MM) (k : Nat) (x : Int32) (j : Nat) : (ui u k x).1 j = if j = k then x else u.1 j := rfl
theorem ua_2 (u : MM) (p i : Nat) (x : Int32) (q j : Nat) : (ua u p i x).2 q j = if q = p ∧ j = i then x else u.2 q j := rfl
section
variable {M : Nat} {S : St} {u : MM}
theorem mp_O : (mput M S u).1 M = some (cO 15 (mfl M u.1)) := by simp only [mput, if_true]
theorem mp_A {p : Nat} (hp : p < 33) : (mput M S u).1 (adr M p) = some (cA (mkd p) (mln p) fun i => vI (u.2 p i)) := by
  simp only [mput, adr]
  rw [if_neg (by omega), if_pos (by omega), show M + 1 + p - M - 1 = p by omega]
theorem mp_2 : (mput M S u).2 = S.2 := rfl
theorem mp_mp (v : MM) : mput M (mput M S u) v = mput M S v := by
  refine Prod.ext (funext fun a => ?_) rfl
  simp only [mput]
  split
  · rfl
  · split
    · rfl
    · rfl
theorem mp_other {a : Nat} (h : ¬ (M ≤ a ∧ a < M + 34)) : (mput M S u).1 a = S.1 a := by
  simp only [mput]
  rw [if_neg (by omega), if_neg (by omega)]
theorem mg_c : grc (mput M S u) (some M) 15 = true := by rw [grc_e mp_O]; rfl
theorem mp_sup {p : Nat} (hp : p < 33) {i : Nat} {x : Int32} : sup (mput M S u) (adr M p) (cA (mkd p) (mln p) (updT (fun i => vI (u.2 p i)) i (vI x))) = mput M S (ua u p i x) := by
  refine Prod.ext (funext fun a => ?_) rfl
  simp only [sup, mput, ua]
  by_cases h1 : a = adr M p
  · have ha : a = M + 1 + p := h1
    rw [if_pos h1, if_neg (by omega), if_pos (by omega), show a - M - 1 = p by omega]
    refine congrArg some (congrArg (fun f => cA (mkd p) (mln p) f) (funext fun j => ?_))
    simp only [updT, true_and]
    split <;> rfl
  · have ha : ¬ a = M + 1 + p := h1
    rw [if_neg h1]
    split
    · rfl
    · split
      · next h2 h3 =>
        have hne : ¬ a - M - 1 = p := by omega
        simp only [hne, false_and, if_false]
      · rfl
theorem mp_supO {k : Nat} {x : Int32} {l : List TV} (h : l = mfl M (fun j => if j = k then x else u.1 j)) : sup (mput M S u) M (cO 15 l) = mput M S (ui u k x) := by
  subst h
  refine Prod.ext (funext fun a => ?_) rfl
  simp only [sup, mput, ui]
  split <;> rfl
theorem ma_g {p k n : Nat} (hp : p < 33) (hk : mkd p = k) (hn : mln p = n) {i : Nat} (hi : i < n) : aI (mput M S u) (some (adr M p)) k (nI i) = some (u.2 p i) := by
  subst hk; subst hn
  have hl : mln p < 2 ^ 31 := by
    have : ∀ q, q < 33 → mln q < 2 ^ 31 := by decide +kernel
    exact this p hp
  simp only [aI]
  rw [aV_e (mp_A hp) hi hl]
  rfl
theorem ms_g {p k n : Nat} (hp : p < 33) (hk : mkd p = k) (hn : mln p = n) {i : Nat} {x : Int32} (hi : i < n) (hx : gfit (g_ty k) x = true) : sI (mput M S u) (some (adr M p)) k (nI i) x = some (mput M S (ua u p i x)) := by
  subst hk; subst hn
  have hl : mln p < 2 ^ 31 := by
    have : ∀ q, q < 33 → mln q < 2 ^ 31 := by decide +kernel
    exact this p hp
  simp only [sI]
  rw [if_pos hx, sV_e (mp_A hp) hi hl, mp_sup hp]
end
section
variable {M : Nat} {S : St} {u : MM}
theorem mI_0 : gI (mput M S u) (some M) 15 0 = some (u.1 0) := gI_e mp_O 0
theorem mw_0 {x : Int32} : pI .int (mput M S u) (some M) 15 0 x = some (mput M S (ui u 0 x)) := by
  rw [pI_e mp_O, if_pos (by simp [mfl])]
  exact congrArg some (mp_supO (by simp [mfl, List.set]))
theorem mI_1 : gI (mput M S u) (some M) 15 1 = some (u.1 1) := gI_e mp_O 1
theorem mw_1 {x : Int32} : pI .int (mput M S u) (some M) 15 1 x = some (mput M S (ui u 1 x)) := by
  rw [pI_e mp_O, if_pos (by simp [mfl])]
  exact congrArg some (mp_supO (by simp [mfl, List.set]))
theorem mI_2 : gI (mput M S u) (some M) 15 2 = some (u.1 2) := gI_e mp_O 2
theorem mw_2 {x : Int32} : pI .int (mput M S u) (some M) 15 2 x = some (mput M S (ui u 2 x)) := by
  rw [pI_e mp_O, if_pos (by simp [mfl])]
  exact congrArg some (mp_supO (by simp [mfl, List.set]))
theorem mI_12 : gI (mput M S u) (some M) 15 12 = some (u.1 12) := gI_e mp_O 12
theorem mw_12 {x : Int32} : pI .int (mput M S u) (some M) 15 12 x = some (mput M S (ui u 12 x)) := by
  rw [pI_e mp_O, if_pos (by simp [mfl])]
  exact congrArg some (mp_supO (by simp [mfl, List.set]))
theorem mI_28 : gI (mput M S u) (some M) 15 28 = some (u.1 28) := gI_e mp_O 28
theorem mw_28 {x : Int32} : pI .int (mput M S u) (some M) 15 28 x = some (mput M S (ui u 28 x)) := by
  rw [pI_e mp_O, if_pos (by simp [mfl])]
  exact congrArg some (mp_supO (by simp [mfl, List.set]))
theorem mI_29 : gI (mput M S u) (some M) 15 29 = some (u.1 29) := gI_e mp_O 29
theorem mw_29 {x : Int32} : pI .int (mput M S u) (some M) 15 29 x = some (mput M S (ui u 29 x)) := by
  rw [pI_e mp_O, if_pos (by simp [mfl])]
  exact congrArg some (mp_supO (by simp [mfl, List.set]))
theorem mI_30 : gI (mput M S u) (some M) 15 30 = some (u.1 30) := gI_e mp_O 30
theorem mw_30 {x : Int32} : pI .int (mput M S u) (some M) 15 30 x = some (mput M S (ui u 30 x)) := by
  rw [pI_e mp_O, if_pos (by simp [mfl])]
  exact congrArg some (mp_supO (by simp [mfl, List.set]))
theorem mI_34 : gI (mput M S u) (some M) 15 34 = some (u.1 34) := gI_e mp_O 34
theorem mw_34 {x : Int32} (hx : x = 0 ∨ x = 1) : pI .boolean (mput M S u) (some M) 15 34 x = some (mput M S (ui u 34 x)) := by
  rw [pB_e mp_O _ hx, if_pos (by simp [mfl])]
  exact congrArg some (mp_supO (by simp [mfl, List.set]))
theorem mI_35 : gI (mput M S u) (some M) 15 35 = some (u.1 35) := gI_e mp_O 35
theorem mw_35 {x : Int32} : pI .int (mput M S u) (some M) 15 35 x = some (mput M S (ui u 35 x)) := by
  rw [pI_e mp_O, if_pos (by simp [mfl])]
  exact congrArg some (mp_supO (by simp [mfl, List.set]))
theorem mI_36 : gI (mput M S u) (some M) 15 36 = some (u.1 36) := gI_e mp_O 36
theorem mw_36 {x : Int32} : pI .int (mput M S u) (some M) 15 36 x = some (mput M S (ui u 36 x)) := by
  rw [pI_e mp_O, if_pos (by simp [mfl])]
  exact congrArg some (mp_supO (by simp [mfl, List.set]))
theorem mI_37 : gI (mput M S u) (some M) 15 37 = some (u.1 37) := gI_e mp_O 37
theorem mw_37 {x : Int32} : pI .int (mput M S u) (some M) 15 37 x = some (mput M S (ui u 37 x)) := by
  rw [pI_e mp_O, if_pos (by simp [mfl])]
  exact congrArg some (mp_supO (by simp [mfl, List.set]))
theorem mI_41 : gI (mput M S u) (some M) 15 41 = some (u.1 41) := gI_e mp_O 41
theorem mw_41 {x : Int32} : pI .int (mput M S u) (some M) 15 41 x = some (mput M S (ui u 41 x)) := by
  rw [pI_e mp_O, if_pos (by simp [mfl])]
  exact congrArg some (mp_supO (by simp [mfl, List.set]))
theorem mI_44 : gI (mput M S u) (some M) 15 44 = some (u.1 44) := gI_e mp_O 44
theorem mw_44 {x : Int32} : pI .int (mput M S u) (some M) 15 44 x = some (mput M S (ui u 44 x)) := by
  rw [pI_e mp_O, if_pos (by simp [mfl])]
  exact congrArg some (mp_supO (by simp [mfl, List.set]))
theorem mR_3 : gR (mput M S u) (some M) 15 3 = some (some (adr M 0)) := gR_e mp_O 3
theorem ma_0 {i : Nat} (hi : i < 60) : aI (mput M S u) (some (adr M 0)) 1 (nI i) = some (u.2 0 i) := ma_g (by decide) rfl rfl hi
theorem ms_0 {i : Nat} (b : Bool) (hi : i < 60) : sI (mput M S u) (some (adr M 0)) 1 (nI i) (b2i b) = some (mput M S (ua u 0 i (b2i b))) := ms_g (by decide) rfl rfl hi (fit_b b)
theorem mR_4 : gR (mput M S u) (some M) 15 4 = some (some (adr M 1)) := gR_e mp_O 4
theorem ma_1 {i : Nat} (hi : i < 60) : aI (mput M S u) (some (adr M 1)) 1 (nI i) = some (u.2 1 i) := ma_g (by decide) rfl rfl hi
theorem ms_1 {i : Nat} (b : Bool) (hi : i < 60) : sI (mput M S u) (some (adr M 1)) 1 (nI i) (b2i b) = some (mput M S (ua u 1 i (b2i b))) := ms_g (by decide) rfl rfl hi (fit_b b)
theorem mR_5 : gR (mput M S u) (some M) 15 5 = some (some (adr M 2)) := gR_e mp_O 5
theorem ma_2 {i : Nat} (hi : i < 60) : aI (mput M S u) (some (adr M 2)) 0 (nI i) = some (u.2 2 i) := ma_g (by decide) rfl rfl hi
theorem ms_2 {i : Nat} {x : Int32} (hi : i < 60) : sI (mput M S u) (some (adr M 2)) 0 (nI i) x = some (mput M S (ua u 2 i x)) := ms_g (by decide) rfl rfl hi rfl
theorem mR_6 : gR (mput M S u) (some M) 15 6 = some (some (adr M 3)) := gR_e mp_O 6
theorem ma_3 {i : Nat} (hi : i < 60) : aI (mput M S u) (some (adr M 3)) 2 (nI i) = some (u.2 3 i) := ma_g (by decide) rfl rfl hi
theorem ms_3 {i : Nat} {x : Int32} (hi : i < 60) (hx : gfit .char x = true) : sI (mput M S u) (some (adr M 3)) 2 (nI i) x = some (mput M S (ua u 3 i x)) := ms_g (by decide) rfl rfl hi hx
theorem mR_7 : gR (mput M S u) (some M) 15 7 = some (some (adr M 4)) := gR_e mp_O 7
theorem ma_4 {i : Nat} (hi : i < 60) : aI (mput M S u) (some (adr M 4)) 0 (nI i) = some (u.2 4 i) := ma_g (by decide) rfl rfl hi
theorem ms_4 {i : Nat} {x : Int32} (hi : i < 60) : sI (mput M S u) (some (adr M 4)) 0 (nI i) x = some (mput M S (ua u 4 i x)) := ms_g (by decide) rfl rfl hi rfl
theorem mR_8 : gR (mput M S u) (some M) 15 8 = some (some (adr M 5)) := gR_e mp_O 8
theorem ma_5 {i : Nat} (hi : i < 60) : aI (mput M S u) (some (adr M 5)) 0 (nI i) = some (u.2 5 i) := ma_g (by decide) rfl rfl hi
theorem ms_5 {i : Nat} {x : Int32} (hi : i < 60) : sI (mput M S u) (some (adr M 5)) 0 (nI i) x = some (mput M S (ua u 5 i x)) := ms_g (by decide) rfl rfl hi rfl
theorem mR_9 : gR (mput M S u) (some M) 15 9 = some (some (adr M 6)) := gR_e mp_O 9
theorem ma_6 {i : Nat} (hi : i < 1200) : aI (mput M S u) (some (adr M 6)) 0 (nI i) = some (u.2 6 i) := ma_g (by decide) rfl rfl hi
theorem ms_6 {i : Nat} {x : Int32} (hi : i < 1200) : sI (mput M S u) (some (adr M 6)) 0 (nI i) x = some (mput M S (ua u 6 i x)) := ms_g (by decide) rfl rfl hi rfl
theorem mR_10 : gR (mput M S u) (some M) 15 10 = some (some (adr M 7)) := gR_e mp_O 10
theorem ma_7 {i : Nat} (hi : i < 60) : aI (mput M S u) (some (adr M 7)) 1 (nI i) = some (u.2 7 i) := ma_g (by decide) rfl rfl hi
theorem ms_7 {i : Nat} (b : Bool) (hi : i < 60) : sI (mput M S u) (some (adr M 7)) 1 (nI i) (b2i b) = some (mput M S (ua u 7 i (b2i b))) := ms_g (by decide) rfl rfl hi (fit_b b)
theorem mR_11 : gR (mput M S u) (some M) 15 11 = some (some (adr M 8)) := gR_e mp_O 11
theorem ma_8 {i : Nat} (hi : i < 60) : aI (mput M S u) (some (adr M 8)) 0 (nI i) = some (u.2 8 i) := ma_g (by decide) rfl rfl hi
theorem ms_8 {i : Nat} {x : Int32} (hi : i < 60) : sI (mput M S u) (some (adr M 8)) 0 (nI i) x = some (mput M S (ua u 8 i x)) := ms_g (by decide) rfl rfl hi rfl
theorem mR_13 : gR (mput M S u) (some M) 15 13 = some (some (adr M 9)) := gR_e mp_O 13
theorem ma_9 {i : Nat} (hi : i < 4) : aI (mput M S u) (some (adr M 9)) 0 (nI i) = some (u.2 9 i) := ma_g (by decide) rfl rfl hi
theorem ms_9 {i : Nat} {x : Int32} (hi : i < 4) : sI (mput M S u) (some (adr M 9)) 0 (nI i) x = some (mput M S (ua u 9 i x)) := ms_g (by decide) rfl rfl hi rfl
theorem mR_14 : gR (mput M S u) (some M) 15 14 = some (some (adr M 10)) := gR_e mp_O 14
theorem ma_10 {i : Nat} (hi : i < 4) : aI (mput M S u) (some (adr M 10)) 0 (nI i) = some (u.2 10 i) := ma_g (by decide) rfl rfl hi
theorem ms_10 {i : Nat} {x : Int32} (hi : i < 4) : sI (mput M S u) (some (adr M 10)) 0 (nI i) x = some (mput M S (ua u 10 i x)) := ms_g (by decide) rfl rfl hi rfl
theorem mR_15 : gR (mput M S u) (some M) 15 15 = some (some (adr M 11)) := gR_e mp_O 15
theorem ma_11 {i : Nat} (hi : i < 32) : aI (mput M S u) (some (adr M 11)) 0 (nI i) = some (u.2 11 i) := ma_g (by decide) rfl rfl hi
theorem ms_11 {i : Nat} {x : Int32} (hi : i < 32) : sI (mput M S u) (some (adr M 11)) 0 (nI i) x = some (mput M S (ua u 11 i x)) := ms_g (by decide) rfl rfl hi rfl
theorem mR_16 : gR (mput M S u) (some M) 15 16 = some (some (adr M 12)) := gR_e mp_O 16
theorem ma_12 {i : Nat} (hi : i < 32) : aI (mput M S u) (some (adr M 12)) 0 (nI i) = some (u.2 12 i) := ma_g (by decide) rfl rfl hi
theorem ms_12 {i : Nat} {x : Int32} (hi : i < 32) : sI (mput M S u) (some (adr M 12)) 0 (nI i) x = some (mput M S (ua u 12 i x)) := ms_g (by decide) rfl rfl hi rfl
theorem mR_17 : gR (mput M S u) (some M) 15 17 = some (some (adr M 13)) := gR_e mp_O 17
theorem ma_13 {i : Nat} (hi : i < 4) : aI (mput M S u) (some (adr M 13)) 1 (nI i) = some (u.2 13 i) := ma_g (by decide) rfl rfl hi
theorem ms_13 {i : Nat} (b : Bool) (hi : i < 4) : sI (mput M S u) (some (adr M 13)) 1 (nI i) (b2i b) = some (mput M S (ua u 13 i (b2i b))) := ms_g (by decide) rfl rfl hi (fit_b b)
theorem mR_18 : gR (mput M S u) (some M) 15 18 = some (some (adr M 14)) := gR_e mp_O 18
theorem ma_14 {i : Nat} (hi : i < 4) : aI (mput M S u) (some (adr M 14)) 1 (nI i) = some (u.2 14 i) := ma_g (by decide) rfl rfl hi
theorem ms_14 {i : Nat} (b : Bool) (hi : i < 4) : sI (mput M S u) (some (adr M 14)) 1 (nI i) (b2i b) = some (mput M S (ua u 14 i (b2i b))) := ms_g (by decide) rfl rfl hi (fit_b b)
theorem mR_19 : gR (mput M S u) (some M) 15 19 = some (some (adr M 15)) := gR_e mp_O 19
theorem ma_15 {i : Nat} (hi : i < 4) : aI (mput M S u) (some (adr M 15)) 0 (nI i) = some (u.2 15 i) := ma_g (by decide) rfl rfl hi
theorem ms_15 {i : Nat} {x : Int32} (hi : i < 4) : sI (mput M S u) (some (adr M 15)) 0 (nI i) x = some (mput M S (ua u 15 i x)) := ms_g (by decide) rfl rfl hi rfl
theorem mR_20 : gR (mput M S u) (some M) 15 20 = some (some (adr M 16)) := gR_e mp_O 20
theorem ma_16 {i : Nat} (hi : i < 240) : aI (mput M S u) (some (adr M 16)) 0 (nI i) = some (u.2 16 i) := ma_g (by decide) rfl rfl hi
theorem ms_16 {i : Nat} {x : Int32} (hi : i < 240) : sI (mput M S u) (some (adr M 16)) 0 (nI i) x = some (mput M S (ua u 16 i x)) := ms_g (by decide) rfl rfl hi rfl
theorem mR_21 : gR (mput M S u) (some M) 15 21 = some (some (adr M 17)) := gR_e mp_O 21
theorem ma_17 {i : Nat} (hi : i < 240) : aI (mput M S u) (some (adr M 17)) 1 (nI i) = some (u.2 17 i) := ma_g (by decide) rfl rfl hi
theorem ms_17 {i : Nat} (b : Bool) (hi : i < 240) : sI (mput M S u) (some (adr M 17)) 1 (nI i) (b2i b) = some (mput M S (ua u 17 i (b2i b))) := ms_g (by decide) rfl rfl hi (fit_b b)
theorem mR_22 : gR (mput M S u) (some M) 15 22 = some (some (adr M 18)) := gR_e mp_O 22
theorem ma_18 {i : Nat} (hi : i < 60) : aI (mput M S u) (some (adr M 18)) 1 (nI i) = some (u.2 18 i) := ma_g (by decide) rfl rfl hi
theorem ms_18 {i : Nat} (b : Bool) (hi : i < 60) : sI (mput M S u) (some (adr M 18)) 1 (nI i) (b2i b) = some (mput M S (ua u 18 i (b2i b))) := ms_g (by decide) rfl rfl hi (fit_b b)
theorem mR_23 : gR (mput M S u) (some M) 15 23 = some (some (adr M 19)) := gR_e mp_O 23
theorem ma_19 {i : Nat} (hi : i < 60) : aI (mput M S u) (some (adr M 19)) 0 (nI i) = some (u.2 19 i) := ma_g (by decide) rfl rfl hi
theorem ms_19 {i : Nat} {x : Int32} (hi : i < 60) : sI (mput M S u) (some (adr M 19)) 0 (nI i) x = some (mput M S (ua u 19 i x)) := ms_g (by decide) rfl rfl hi rfl
theorem mR_24 : gR (mput M S u) (some M) 15 24 = some (some (adr M 20)) := gR_e mp_O 24
theorem ma_20 {i : Nat} (hi : i < 60) : aI (mput M S u) (some (adr M 20)) 2 (nI i) = some (u.2 20 i) := ma_g (by decide) rfl rfl hi
theorem ms_20 {i : Nat} {x : Int32} (hi : i < 60) (hx : gfit .char x = true) : sI (mput M S u) (some (adr M 20)) 2 (nI i) x = some (mput M S (ua u 20 i x)) := ms_g (by decide) rfl rfl hi hx
theorem mR_25 : gR (mput M S u) (some M) 15 25 = some (some (adr M 21)) := gR_e mp_O 25
theorem ma_21 {i : Nat} (hi : i < 60) : aI (mput M S u) (some (adr M 21)) 0 (nI i) = some (u.2 21 i) := ma_g (by decide) rfl rfl hi
theorem ms_21 {i : Nat} {x : Int32} (hi : i < 60) : sI (mput M S u) (some (adr M 21)) 0 (nI i) x = some (mput M S (ua u 21 i x)) := ms_g (by decide) rfl rfl hi rfl
theorem mR_26 : gR (mput M S u) (some M) 15 26 = some (some (adr M 22)) := gR_e mp_O 26
theorem ma_22 {i : Nat} (hi : i < 60) : aI (mput M S u) (some (adr M 22)) 0 (nI i) = some (u.2 22 i) := ma_g (by decide) rfl rfl hi
theorem ms_22 {i : Nat} {x : Int32} (hi : i < 60) : sI (mput M S u) (some (adr M 22)) 0 (nI i) x = some (mput M S (ua u 22 i x)) := ms_g (by decide) rfl rfl hi rfl
theorem mR_27 : gR (mput M S u) (some M) 15 27 = some (some (adr M 23)) := gR_e mp_O 27
theorem ma_23 {i : Nat} (hi : i < 1200) : aI (mput M S u) (some (adr M 23)) 0 (nI i) = some (u.2 23 i) := ma_g (by decide) rfl rfl hi
theorem ms_23 {i : Nat} {x : Int32} (hi : i < 1200) : sI (mput M S u) (some (adr M 23)) 0 (nI i) x = some (mput M S (ua u 23 i x)) := ms_g (by decide) rfl rfl hi rfl
theorem mR_31 : gR (mput M S u) (some M) 15 31 = some (some (adr M 24)) := gR_e mp_O 31
theorem ma_24 {i : Nat} (hi : i < 60) : aI (mput M S u) (some (adr M 24)) 0 (nI i) = some (u.2 24 i) := ma_g (by decide) rfl rfl hi
theorem ms_24 {i : Nat} {x : Int32} (hi : i < 60) : sI (mput M S u) (some (adr M 24)) 0 (nI i) x = some (mput M S (ua u 24 i x)) := ms_g (by decide) rfl rfl hi rfl
theorem mR_32 : gR (mput M S u) (some M) 15 32 = some (some (adr M 25)) := gR_e mp_O 32
theorem ma_25 {i : Nat} (hi : i < 60) : aI (mput M S u) (some (adr M 25)) 0 (nI i) = some (u.2 25 i) := ma_g (by decide) rfl rfl hi
theorem ms_25 {i : Nat} {x : Int32} (hi : i < 60) : sI (mput M S u) (some (adr M 25)) 0 (nI i) x = some (mput M S (ua u 25 i x)) := ms_g (by decide) rfl rfl hi rfl
theorem mR_33 : gR (mput M S u) (some M) 15 33 = some (some (adr M 26)) := gR_e mp_O 33
theorem ma_26 {i : Nat} (hi : i < 60) : aI (mput M S u) (some (adr M 26)) 1 (nI i) = some (u.2 26 i) := ma_g (by decide) rfl rfl hi
theorem ms_26 {i : Nat} (b : Bool) (hi : i < 60) : sI (mput M S u) (some (adr M 26)) 1 (nI i) (b2i b) = some (mput M S (ua u 26 i (b2i b))) := ms_g (by decide) rfl rfl hi (fit_b b)
theorem mR_38 : gR (mput M S u) (some M) 15 38 = some (some (adr M 27)) := gR_e mp_O 38
theorem ma_27 {i : Nat} (hi : i < 600) : aI (mput M S u) (some (adr M 27)) 0 (nI i) = some (u.2 27 i) := ma_g (by decide) rfl rfl hi
theorem ms_27 {i : Nat} {x : Int32} (hi : i < 600) : sI (mput M S u) (some (adr M 27)) 0 (nI i) x = some (mput M S (ua u 27 i x)) := ms_g (by decide) rfl rfl hi rfl
theorem mR_39 : gR (mput M S u) (some M) 15 39 = some (some (adr M 28)) := gR_e mp_O 39
theorem ma_28 {i : Nat} (hi : i < 600) : aI (mput M S u) (some (adr M 28)) 0 (nI i) = some (u.2 28 i) := ma_g (by decide) rfl rfl hi
theorem ms_28 {i : Nat} {x : Int32} (hi : i < 600) : sI (mput M S u) (some (adr M 28)) 0 (nI i) x = some (mput M S (ua u 28 i x)) := ms_g (by decide) rfl rfl hi rfl
theorem mR_40 : gR (mput M S u) (some M) 15 40 = some (some (adr M 29)) := gR_e mp_O 40
theorem ma_29 {i : Nat} (hi : i < 600) : aI (mput M S u) (some (adr M 29)) 1 (nI i) = some (u.2 29 i) := ma_g (by decide) rfl rfl hi
theorem ms_29 {i : Nat} (b : Bool) (hi : i < 600) : sI (mput M S u) (some (adr M 29)) 1 (nI i) (b2i b) = some (mput M S (ua u 29 i (b2i b))) := ms_g (by decide) rfl rfl hi (fit_b b)
theorem mR_42 : gR (mput M S u) (some M) 15 42 = some (some (adr M 30)) := gR_e mp_O 42
theorem ma_30 {i : Nat} (hi : i < 60) : aI (mput M S u) (some (adr M 30)) 1 (nI i) = some (u.2 30 i) := ma_g (by decide) rfl rfl hi
theorem ms_30 {i : Nat} (b : Bool) (hi : i < 60) : sI (mput M S u) (some (adr M 30)) 1 (nI i) (b2i b) = some (mput M S (ua u 30 i (b2i b))) := ms_g (by decide) rfl rfl hi (fit_b b)
theorem mR_43 : gR (mput M S u) (some M) 15 43 = some (some (adr M 31)) := gR_e mp_O 43
theorem ma_31 {i : Nat} (hi : i < 60) : aI (mput M S u) (some (adr M 31)) 1 (nI i) = some (u.2 31 i) := ma_g (by decide) rfl rfl hi
theorem ms_31 {i : Nat} (b : Bool) (hi : i < 60) : sI (mput M S u) (some (adr M 31)) 1 (nI i) (b2i b) = some (mput M S (ua u 31 i (b2i b))) := ms_g (by decide) rfl rfl hi (fit_b b)
theorem mR_45 : gR (mput M S u) (some M) 15 45 = some (some (adr M 32)) := gR_e mp_O 45
theorem ma_32 {i : Nat} (hi : i < 20) : aI (mput M S u) (some (adr M 32)) 0 (nI i) = some (u.2 32 i) := ma_g (by decide) rfl rfl hi
theorem ms_32 {i : Nat} {x : Int32} (hi : i < 20) : sI (mput M S u) (some (adr M 32)) 0 (nI i) x = some (mput M S (ua u 32 i x)) := ms_g (by decide) rfl rfl hi rfl
end
