/-! TWO HEAPS: what a high cell stands for in the plain heap, with hidden cells by their owners -/
theorem sup_1 (S : St) (q : Nat) (e : CE) (a : Nat) : (sup S q e).1 a = if a = q then some e else S.1 a := rfl
theorem sup_at (S : St) (q : Nat) (e : CE) : (sup S q e).1 q = some e := by simp only [sup, if_true]
theorem sup_ne (S : St) {q a : Nat} (e : CE) (h : a ≠ q) : (sup S q e).1 a = S.1 a := by simp only [sup, if_neg h]
theorem sup_2 (S : St) (q : Nat) (e : CE) : (sup S q e).2 = S.2 := rfl
theorem sup_sup (S : St) (q : Nat) (e e' : CE) : sup (sup S q e) q e' = sup S q e' := by
  refine Prod.ext (funext fun a => ?_) rfl
  simp only [sup]
  split <;> rfl
theorem sup_comm (S : St) {q a : Nat} (e e' : CE) (h : a ≠ q) : sup (sup S q e) a e' = sup (sup S a e') q e := by
  refine Prod.ext (funext fun b => ?_) rfl
  simp only [sup]
  by_cases h1 : b = a
  · subst h1; rw [if_pos rfl, if_neg h, if_pos rfl]
  · rw [if_neg h1]
    by_cases h2 : b = q
    · rw [if_pos h2, if_pos h2]
    · rw [if_neg h2, if_neg h2, if_neg h1]
theorem gcell_e {S : St} {q : Nat} {e : CE} (h : S.1 q = some e) : gcell S (some q) = some (q, e) := by simp only [gcell, h]
theorem gobj_e {S : St} {q c : Nat} {fs : List TV} (h : S.1 q = some (cO c fs)) : gobj S (some q) c = some (q, fs) := by simp only [gobj, gcell, h, if_true]
theorem garr_e {S : St} {q k n : Nat} {f : Nat → TV} (h : S.1 q = some (cA k n f)) : garr S (some q) k = some (q, n, f) := by simp only [garr, gcell, h, if_true]
theorem gF_e {S : St} {q c k : Nat} {fs : List TV} (h : S.1 q = some (cO c fs)) : gF S (some q) c k = fs[k]? := by simp only [gF, gobj_e h, Option.bind_some]
theorem gI_e {S : St} {q c : Nat} {fs : List TV} (h : S.1 q = some (cO c fs)) (k : Nat) : gI S (some q) c k = (fs[k]?).bind asI := by simp only [gI, gF_e h]
theorem gR_e {S : St} {q c : Nat} {fs : List TV} (h : S.1 q = some (cO c fs)) (k : Nat) : gR S (some q) c k = (fs[k]?).bind asR := by simp only [gR, gF_e h]
theorem pF_e {S : St} {q c : Nat} {fs : List TV} (h : S.1 q = some (cO c fs)) (k : Nat) (v : TV) : pF S (some q) c k v = if k < fs.length then some (sup S q (cO c (fs.set k v))) else none := by simp only [pF, gobj_e h, Option.bind_some]
theorem pI_e {S : St} {q c : Nat} {fs : List TV} (h : S.1 q = some (cO c fs)) (k : Nat) (x : Int32) : pI .int S (some q) c k x = if k < fs.length then some (sup S q (cO c (fs.set k (vI x)))) else none := by simp only [pI, gfit, if_true, pF_e h]
theorem pB_e {S : St} {q c : Nat} {fs : List TV} (h : S.1 q = some (cO c fs)) (k : Nat) {x : Int32} (hx : x = 0 ∨ x = 1) : pI .boolean S (some q) c k x = if k < fs.length then some (sup S q (cO c (fs.set k (vI x)))) else none := by simp only [pI, gfit, decide_eq_true_eq, if_pos hx, pF_e h]
theorem pR_e {S : St} {q c : Nat} {fs : List TV} (h : S.1 q = some (cO c fs)) (k : Nat) (x : Option Nat) : pR S (some q) c k x = if k < fs.length then some (sup S q (cO c (fs.set k (vR x)))) else none := by simp only [pR, pF_e h]
theorem grc_e {S : St} {q c : Nat} {e : CE} (h : S.1 q = some e) : grc S (some q) c = (gclsOf e == c) := by simp only [grc, gcell, h]
theorem aLn_e {S : St} {q k n : Nat} {f : Nat → TV} (h : S.1 q = some (cA k n f)) (hk : k < 6 ∨ (10 ≤ k ∧ k < 16)) : aLn S (some q) = some (nI n) := by
  simp only [aLn, gcell, h, if_pos hk]
  rfl
theorem aV_e {S : St} {q k n i : Nat} {f : Nat → TV} (h : S.1 q = some (cA k n f)) (hi : i < n) (hn : n < 2 ^ 31) : aV S (some q) k (nI i) = some (f i) := by
  simp only [aV, garr_e h, Option.bind_some]
  rw [if_neg (nI_in hi hn), nI_clamp (by omega)]
theorem sV_e {S : St} {q k n i : Nat} {f : Nat → TV} {v : TV} (h : S.1 q = some (cA k n f)) (hi : i < n) (hn : n < 2 ^ 31) : sV S (some q) k (nI i) v = some (sup S q (cA k n (updT f i v))) := by
  simp only [sV, garr_e h, Option.bind_some]
  rw [if_neg (nI_in hi hn), nI_clamp (by omega)]
theorem sR_e {S : St} {q k n i : Nat} {f : Nat → TV} {x : Option Nat} (ho : okst S k x = true) (h : S.1 q = some (cA k n f)) (hi : i < n) (hn : n < 2 ^ 31) : sR S (some q) k (nI i) x = some (sup S q (cA k n (updT f i (vR x)))) := by
  simp only [sR, if_pos ho]
  exact sV_e h hi hn
theorem naB_e {α : Type} (S : St) {k n : Nat} (hn : n ≤ 100000) (f : Option Nat → St → Option α) : naB S k (nI n) f = f (some S.2.1) (spu S (cA k n (fun _ => gdef k)) n) := by
  simp only [naB]
  rw [nI_clamp (by omega), if_neg]
  rintro (h | h)
  · exact nI_pos (by omega) h
  · omega
theorem okst_none (S : St) (k : Nat) : okst S k none = true := rfl
theorem okst_up {S S' : St} {k : Nat} {x : Option Nat} (h : okst S k x = true) (hs : ∀ q e, S.1 q = some e → gclsOf e ≠ 99 → ∃ e', S'.1 q = some e' ∧ gclsOf e' = gclsOf e) : okst S' k x = true := by
  cases x with
  | none => rfl
  | some q =>
    unfold okst at h ⊢
    simp only at h ⊢
    split at h
    · next e he =>
      by_cases hc : gclsOf e = 99
      · rw [hc] at h; simp at h
      · obtain ⟨e', h1, h2⟩ := hs q e he hc
        rw [h1]
        simp only [h2]
        exact h
    · cases h
/-- an ArrayList's array: its items, then nulls -/
def alf (xs : List (Option Nat)) : Nat → TV := fun i => vR ((xs[i]?).getD none)
/-- an ArrayDeque's array: from the head on, in a circle -/
def dqm (hd i cap : Nat) : Nat := if hd + i < cap then hd + i else hd + i - cap
def dqf (xs : List (Option Nat)) (cap hd : Nat) (f : Nat → TV) : Prop := ∀ i, i < cap → f (dqm hd i cap) = vR ((xs[i]?).getD none)
def aAL (S SL : St) (O : Nat → Option Nat) (q : Nat) (md : Int32) (cap : Nat) (xs : List (Option Nat)) : Prop :=
  (∀ x ∈ xs, okst S 4 x = true) ∧ xs.length ≤ cap ∧ cap < 10000 ∧ ((cap = 0 ∧ SL.1 q = some (cO 8 [vI md, vR (some (S.2.2.2 0)), vI (nI xs.length)])) ∨ (0 < cap ∧ ∃ a, SL.1 q = some (cO 8 [vI md, vR (some a), vI (nI xs.length)]) ∧ O a = some q ∧ SL.1 a = some (cA 4 cap (alf xs))))
def aLL (SL : St) (O : Nat → Option Nat) (q : Nat) (md : Int32) (ns : List (Nat × Option Nat)) : Prop :=
  SL.1 q = some (cO 9 [vI md, vI (nI ns.length), vR (lladr ns 0), vR (lladr ns (ns.length - 1))]) ∧ (ns.map (·.1)).Nodup ∧ ∀ i a x, ns[i]? = some (a, x) → O a = some q ∧ SL.1 a = some (cO 11 [vR x, vR (lladr ns (i + 1)), vR (if i = 0 then none else lladr ns (i - 1))])
def aDQ (S SL : St) (O : Nat → Option Nat) (q : Nat) (cap : Nat) (xs : List (Option Nat)) : Prop :=
  (∀ x ∈ xs, okst S 4 x = true ∧ x.isSome = true) ∧ xs.length < cap ∧ cap < 10000 ∧ ∃ a hd f, hd < cap ∧ SL.1 q = some (cO 14 [vR (some a), vI (nI hd), vI (nI (dqm hd xs.length cap))]) ∧ O a = some q ∧ SL.1 a = some (cA 4 cap f) ∧ dqf xs cap hd f
def aBS (SL : St) (O : Nat → Option Nat) (q : Nat) (w : Int64) : Prop :=
  ∃ (a : Nat) (f : Nat → TV) (u : Int32), SL.1 q = some (cO 10 [vR (some a), vI u, vI 1]) ∧ (u = 0 ∧ w = 0 ∨ u = 1) ∧ O a = some q ∧ SL.1 a = some (cA 3 1 f) ∧ f 0 = vL w
def absE (S SL : St) (O : Nat → Option Nat) (q : Nat) (e : CE) : Prop := match e with
  | .inl (k, n, f) => SL.1 q = some (cA k n f)
  | .inr (.inl (c, fs)) => SL.1 q = some (cO c fs)
  | .inr (.inr (.inl (md, cap, xs))) => aAL S SL O q md cap xs
  | .inr (.inr (.inr (.inl (md, ns)))) => aLL SL O q md ns
  | .inr (.inr (.inr (.inr (.inl (cap, xs))))) => aDQ S SL O q cap xs
  | .inr (.inr (.inr (.inr (.inr (.inl w))))) => aBS SL O q w
  | .inr (.inr (.inr (.inr (.inr (.inr (.inl _)))))) => False
  | .inr (.inr (.inr (.inr (.inr (.inr (.inr x)))))) => SL.1 q = some (cBX x)
def Abs (S SL : St) (O : Nat → Option Nat) : Prop :=
  SL.2 = S.2 ∧ ((∃ f, SL.1 (S.2.2.2 0) = some (cA 14 0 f)) ∧ S.1 (S.2.2.2 0) = none ∧ O (S.2.2.2 0) = none ∧ S.2.2.2 0 < S.2.1) ∧ (∀ a q, O a = some q → S.1 a = none ∧ a < S.2.1) ∧ (∀ a e, S.1 a = some e → a < S.2.1 ∧ absE S SL O a e)
def HIhi (Γ : GG) (S : St) (H : Heap) : Prop := ∃ SL O, Abs S SL O ∧ HIlo Γ SL H
/-- the plain cell has the high cell's class -/
theorem absE_cls {S SL : St} {O : Nat → Option Nat} {q : Nat} {e : CE} (h : absE S SL O q e) : ∃ e', SL.1 q = some e' ∧ gclsOf e' = gclsOf e := by
  rcases e with ⟨k, n, f⟩ | ⟨c, fs⟩ | ⟨md, cap, xs⟩ | ⟨md, ns⟩ | ⟨cap, xs⟩ | w | z | x
  · exact ⟨_, h, rfl⟩
  · exact ⟨_, h, rfl⟩
  · obtain ⟨-, -, -, ⟨-, h⟩ | ⟨-, a, h, -⟩⟩ := h <;> exact ⟨_, h, rfl⟩
  · exact ⟨_, h.1, rfl⟩
  · obtain ⟨-, -, -, a, hd, f, -, h, -⟩ := h; exact ⟨_, h, rfl⟩
  · obtain ⟨a, f, u, h, -⟩ := h; exact ⟨_, h, rfl⟩
  · exact h.elim
  · exact ⟨_, h, rfl⟩
theorem okst_lo {S SL : St} {O : Nat → Option Nat} (A : Abs S SL O) {k : Nat} {x : Option Nat} (h : okst S k x = true) : okst SL k x = true :=
  okst_up h fun q e he _ => absE_cls (A.2.2.2 q e he).2
theorem grc_lo {S SL : St} {O : Nat → Option Nat} (A : Abs S SL O) {c : Nat} {x : Option Nat} (h : grc S x c = true) : grc SL x c = true := by
  obtain ⟨q, e, rfl, hq, hc⟩ := grc_some h
  obtain ⟨e', h1, h2⟩ := absE_cls (A.2.2.2 q e hq).2
  rw [grc_e h1, h2, hc]
  exact beq_self_eq_true c
/-- what stands for a cell stays where the plain heap stays, at the cell and at what is hidden behind it -/
theorem absE_kept {S SL S' SL' : St} {O O' : Nat → Option Nat} {q : Nat} {e : CE} (h : absE S SL O q e) (hc : S'.2.2.2 = S.2.2.2) (hok : ∀ x, okst S 4 x = true → okst S' 4 x = true) (hq : SL'.1 q = SL.1 q) (hO : ∀ a, O a = some q → O' a = some q ∧ SL'.1 a = SL.1 a) : absE S' SL' O' q e := by
  rcases e with ⟨k, n, f⟩ | ⟨c, fs⟩ | ⟨md, cap, xs⟩ | ⟨md, ns⟩ | ⟨cap, xs⟩ | w | z | x
  · exact hq.trans h
  · exact hq.trans h
  · obtain ⟨h1, h2, h3, ⟨h4, h5⟩ | ⟨h4, a, h5, h6, h7⟩⟩ := h
    · exact ⟨fun x hx => hok x (h1 x hx), h2, h3, Or.inl ⟨h4, by rw [hq, h5, hc]⟩⟩
    · exact ⟨fun x hx => hok x (h1 x hx), h2, h3, Or.inr ⟨h4, a, by rw [hq, h5], (hO a h6).1, by rw [(hO a h6).2, h7]⟩⟩
  · obtain ⟨h1, h2, h3⟩ := h
    exact ⟨hq.trans h1, h2, fun i a x hi => ⟨(hO a (h3 i a x hi).1).1, by rw [(hO a (h3 i a x hi).1).2]; exact (h3 i a x hi).2⟩⟩
  · obtain ⟨h1, h2, h3, a, hd, f, h4, h5, h6, h7, h8⟩ := h
    exact ⟨fun x hx => ⟨hok x (h1 x hx).1, (h1 x hx).2⟩, h2, h3, a, hd, f, h4, hq.trans h5, (hO a h6).1, (hO a h6).2.trans h7, h8⟩
  · obtain ⟨a, f, u, h1, h2, h3, h4, h5⟩ := h
    exact ⟨a, f, u, hq.trans h1, h2, (hO a h3).1, (hO a h3).2.trans h4, h5⟩
  · exact h.elim
  · exact hq.trans h
/-- a cell changes, with what is hidden behind it; fresh cells may be made behind it -/
theorem Abs_up {S SL S' SL' : St} {O O' : Nat → Option Nat} {q : Nat} {e e' : CE} (A : Abs S SL O) (hq : S.1 q = some e) (hcl : gclsOf e' = gclsOf e) (h1 : ∀ a, S'.1 a = if a = q then some e' else S.1 a) (h2 : SL'.2 = S'.2) (hc : S'.2.2.2 = S.2.2.2) (hm : S.2.1 ≤ S'.2.1)
    (hL : ∀ a, a ≠ q → O a ≠ some q → a < S.2.1 → SL'.1 a = SL.1 a) (hO : ∀ a, O a ≠ some q → a < S.2.1 → O' a = O a) (hN : ∀ a b, O' a = some b → (O a = some b ∧ a < S.2.1) ∨ (b = q ∧ S.2.1 ≤ a ∧ a < S'.2.1)) (he : absE S' SL' O' q e') : Abs S' SL' O' := by
  obtain ⟨a1, ⟨⟨f0, a2⟩, a21, a22, a23⟩, a3, a4⟩ := A
  have hlt := (a4 q e hq).1
  have hok : ∀ x, okst S 4 x = true → okst S' 4 x = true := fun x hx => okst_up hx fun b eb hb hb9 => by
    rw [h1]
    by_cases hbq : b = q
    · subst hbq
      cases hq.symm.trans hb
      exact ⟨e', if_pos rfl, hcl⟩
    · exact ⟨eb, by rw [if_neg hbq]; exact hb, rfl⟩
  have hdq : S.2.2.2 0 ≠ q := fun h => by rw [h, hq] at a21; cases a21
  have hd0 : O (S.2.2.2 0) ≠ some q := by rw [a22]; exact fun h => by cases h
  refine ⟨h2, ⟨⟨f0, by rw [hc, hL _ hdq hd0 a23]; exact a2⟩, by rw [hc, h1, if_neg hdq]; exact a21, by rw [hc, hO _ hd0 a23]; exact a22, by rw [hc]; omega⟩, fun a b hab => ?_, fun a ea hea => ?_⟩
  · rcases hN a b hab with ⟨g1, g2⟩ | ⟨rfl, g1, g2⟩
    · obtain ⟨g3, g4⟩ := a3 a b g1
      refine ⟨?_, by omega⟩
      rw [h1, if_neg fun h => ?_]
      · exact g3
      · rw [h, hq] at g3; cases g3
    · refine ⟨?_, g2⟩
      rw [h1, if_neg (by omega)]
      cases hs : S.1 a with
      | none => rfl
      | some x => exact absurd (a4 a x hs).1 (by omega)
  · rw [h1] at hea
    by_cases haq : a = q
    · subst haq
      rw [if_pos rfl] at hea
      cases hea
      exact ⟨by omega, he⟩
    · rw [if_neg haq] at hea
      obtain ⟨g1, g2⟩ := a4 a ea hea
      have hoa : O a ≠ some q := fun h => by
        rw [(a3 a q h).1] at hea; cases hea
      refine ⟨by omega, absE_kept g2 hc hok (hL a haq hoa g1) fun b hb => ?_⟩
      have hbq : O b ≠ some q := fun h => haq (Option.some.inj (hb.symm.trans h))
      have hbl := (a3 b a hb).2
      exact ⟨by rw [hO b hbq hbl]; exact hb, hL b (fun h => by rw [h] at hb; rw [(a3 q a hb).1] at hq; cases hq) hbq hbl⟩
/-- a high cell's own plain cell changes alone -/
theorem Abs_upO {S SL : St} {O : Nat → Option Nat} {q : Nat} {e e' : CE} (A : Abs S SL O) (hq : S.1 q = some e) (hcl : gclsOf e' = gclsOf e) (x : CE) (he : absE (sup S q e') (sup SL q x) O q e') : Abs (sup S q e') (sup SL q x) O :=
  Abs_up A hq hcl (fun _ => rfl) A.1 rfl (Nat.le_refl _) (fun a h _ _ => sup_ne SL x h) (fun _ _ _ => rfl) (fun a b h => Or.inl ⟨h, (A.2.2.1 a b h).2⟩) he
/-- a new visible cell -/
theorem Abs_new {S SL : St} {O : Nat → Option Nat} {e : CE} {n : Nat} (A : Abs S SL O) (hb : (∃ c fs, e = cO c fs) ∨ ∃ k m f, e = cA k m f) : Abs (spu S e n) (spu SL e n) (fun a => if a < S.2.1 then O a else none) := by
  obtain ⟨a1, ⟨⟨f0, a2⟩, a21, a22, a23⟩, a3, a4⟩ := A
  have e21 : SL.2.1 = S.2.1 := by rw [a1]
  have e22 : SL.2.2.1 = S.2.2.1 := by rw [a1]
  have e23 : SL.2.2.2 = S.2.2.2 := by rw [a1]
  have hok : ∀ x, okst S 4 x = true → okst (spu S e n) 4 x = true := fun x hx => okst_up hx fun b eb hb _ => by
    have := (a4 b eb hb).1
    exact ⟨eb, by simp only [spu]; rw [if_neg (by omega)]; exact hb, rfl⟩
  refine ⟨by simp only [spu, e21, e22, e23], ⟨⟨f0, by simp only [spu, e21]; rw [if_neg (by omega)]; exact a2⟩, by simp only [spu]; rw [if_neg (by omega)]; exact a21, by show (if S.2.2.2 0 < S.2.1 then O (S.2.2.2 0) else none) = none; rw [if_pos a23]; exact a22, by simp only [spu]; omega⟩, fun a b hab => ?_, fun a ea hea => ?_⟩
  · simp only at hab
    split at hab
    · next h =>
      obtain ⟨g1, g2⟩ := a3 a b hab
      exact ⟨by simp only [spu]; rw [if_neg (by omega)]; exact g1, by simp only [spu]; omega⟩
    · cases hab
  · simp only [spu] at hea ⊢
    by_cases ha : a = S.2.1
    · subst ha
      rw [if_pos rfl] at hea
      cases hea
      refine ⟨by omega, ?_⟩
      rcases hb with ⟨c, fs, rfl⟩ | ⟨k, m, f, rfl⟩
      · show (if S.2.1 = SL.2.1 then _ else _) = _
        rw [if_pos e21.symm]
      · show (if S.2.1 = SL.2.1 then _ else _) = _
        rw [if_pos e21.symm]
    · rw [if_neg ha] at hea
      obtain ⟨g1, g2⟩ := a4 a ea hea
      refine ⟨by omega, absE_kept (S' := spu S e n) (SL' := spu SL e n) g2 rfl hok (by simp only [spu, e21]; rw [if_neg ha]) fun b hb => ?_⟩
      have hbl := (a3 b a hb).2
      exact ⟨by rw [if_pos hbl]; exact hb, by simp only [spu, e21]; rw [if_neg (by omega)]⟩
/-- a new cell that nobody sees -/
theorem Abs_skip {S SL : St} {O : Nat → Option Nat} {n : Nat} (A : Abs S SL O) : Abs (ssk S n) (ssk SL n) O := by
  obtain ⟨a1, ⟨⟨f0, a2⟩, a21, a22, a23⟩, a3, a4⟩ := A
  refine ⟨by simp only [ssk, a1], ⟨⟨f0, a2⟩, a21, a22, by simp only [ssk]; omega⟩, fun a b hab => ⟨(a3 a b hab).1, by have := (a3 a b hab).2; simp only [ssk]; omega⟩, fun a ea hea => ?_⟩
  obtain ⟨g1, g2⟩ := a4 a ea hea
  exact ⟨by simp only [ssk]; omega, absE_kept (S' := ssk S n) (SL' := ssk SL n) g2 rfl (fun x hx => hx) rfl fun b hb => ⟨hb, rfl⟩⟩
theorem HIhi_x (Γ : GG) : HIx Γ (HIhi Γ) := by
  have L := HIlo_x Γ
  refine ⟨?_, ?_, ?_, ?_, ?_, ?_, ?_, ?_, ?_, ?_⟩
  · rintro S H q e ⟨SL, O, A, h⟩ hq
    have ha := (A.2.2.2 q e hq).2
    have C : ∀ {c : Nat} {fs : List TV} (n : Nat), SL.1 q = some (cO c fs) → c < 17 → gC Γ c q H := fun {c fs} n hs hc => by
      obtain ⟨cell, g1, g2, g3⟩ := gAt_cls (L.1 SL H q _ h hs) (by show c ≠ 99; omega)
      refine ⟨cell, g1, g2, g3, ?_⟩
      obtain ⟨r, k1, cell2, k2, k3, k4, -⟩ := L.1 SL H q _ h hs
      cases g1.symm.trans k2
      rw [k4]
      exact fun h => by cases h
    rcases e with ⟨k, n, f⟩ | ⟨c, fs⟩ | ⟨md, cap, xs⟩ | ⟨md, ns⟩ | ⟨cap, xs⟩ | w | z | x
    · exact L.1 SL H q _ h ha
    · exact L.1 SL H q _ h ha
    · obtain ⟨-, -, -, ⟨-, hs⟩ | ⟨-, a, hs, -⟩⟩ := ha <;> exact C 0 hs (by decide)
    · exact C 0 ha.1 (by decide)
    · obtain ⟨-, -, -, a, hd, f, -, hs, -⟩ := ha; exact C 0 hs (by decide)
    · obtain ⟨a, f, u, hs, -⟩ := ha; exact C 0 hs (by decide)
    · exact ha.elim
    · exact L.1 SL H q _ h ha
  · rintro S H H1 q c fs fs' ⟨SL, O, A, h⟩ hq hl hz ho hat
    have ha := (A.2.2.2 q _ hq).2
    exact ⟨_, O, Abs_upO A hq (e' := cO c fs') rfl (cO c fs') (sup_at _ _ _), L.2.1 SL H H1 q c fs fs' h ha hl hz ho hat⟩
  · rintro S H H1 q k n f f' ⟨SL, O, A, h⟩ hq hk hz ho hat
    have ha := (A.2.2.2 q _ hq).2
    exact ⟨_, O, Abs_upO A hq (e' := cA k n f') rfl (cA k n f') (sup_at _ _ _), L.2.2.1 SL H H1 q k n f f' h ha hk hz ho hat⟩
  · rintro S H H1 e n ⟨SL, O, A, h⟩ hb hz ho hat
    exact ⟨_, _, Abs_new A (hb.imp id fun ⟨k, m, f, _, e⟩ => ⟨k, m, f, e⟩), L.2.2.2.1 SL H H1 e n h hb hz ho hat⟩
  · rintro S H H1 n ⟨SL, O, A, h⟩ hz ho
    exact ⟨_, _, Abs_skip A, L.2.2.2.2.1 SL H H1 n h hz ho⟩
  · rintro S H ⟨SL, O, A, h⟩
    rw [← A.1]; exact h.1
  · rintro S H ⟨SL, O, A, h⟩
    exact h.2.1
  · rintro S H q c fs ⟨SL, O, A, h⟩ hq
    exact L.2.2.2.2.2.2.2.1 SL H q c fs h (A.2.2.2 q _ hq).2
  · rintro S H q k n f ⟨SL, O, A, h⟩ hq hk
    exact L.2.2.2.2.2.2.2.2.1 SL H q k n f h (A.2.2.2 q _ hq).2 hk
  · rintro S H ⟨SL, O, A, h⟩
    rw [← A.1]; exact h.2.2.1
/-- what every walk over the high heap rests on -/
def EH (Γ : GG) (HI : St → Heap → Prop) (l : Launch) : Prop := HI = HIhi Γ ∧ l.stackTraces = false
theorem EH.hx {Γ : GG} {HI : St → Heap → Prop} {l : Launch} (E : EH Γ HI l) : HIx Γ HI := by rw [E.1]; exact HIhi_x Γ
theorem EH.ntr {Γ : GG} {HI : St → Heap → Prop} {l : Launch} (E : EH Γ HI l) : l.stackTraces = false := E.2
theorem EH.lo {Γ : GG} {HI : St → Heap → Prop} {l : Launch} (E : EH Γ HI l) : EL Γ HI l := ⟨E.hx, E.2⟩
theorem EH.el {Γ : GG} {HI : St → Heap → Prop} {l : Launch} (E : EH Γ HI l) : EL Γ (HIlo Γ) l := ⟨HIlo_x Γ, E.2⟩
/-- a contract over the plain heap is one over the high heap -/
theorem MS_lift {Γ : GG} {HI : St → Heap → Prop} {l : Launch} (E : EH Γ HI l) {y : MethodName} {b : ByteArray} {mL : Nat} {rt : Option FieldType} {rk : Nat} {S S' : St} {args : List TV} {res : Option TV ⊕ String} (hm : S.2.1 ≤ S'.2.1 ∧ S.2.2.1 ≤ S'.2.2.1)
    (h : ∀ SL O, Abs S SL O → ∃ SL' O', MS Γ (HIlo Γ) l y b mL rt rk SL args res SL' ∧ Abs S' SL' O') : MS Γ HI l y b mL rt rk S args res S' := by
  refine ⟨fun _ => hm, ?_⟩
  obtain ⟨rfl, -⟩ := E
  intro p e hadm hcas hclk s m as below hf hs hP hK
  obtain ⟨hP1, ⟨SL, O, A, hlo⟩, hP3⟩ := hP
  obtain ⟨SL', O', hM, A'⟩ := h SL O A
  have hM2 := hM.2
  have e1 : MRm rk SL SL' = MRm rk S S' := by simp only [MRm, A.1, A'.1]
  have e2 : SL'.2.1 - SL.2.1 = S'.2.1 - S.2.1 := by rw [A.1, A'.1]
  have e3 : SL'.2.2.1 - SL.2.2.1 = S'.2.2.1 - S.2.2.1 := by rw [A.1, A'.1]
  rw [e1, e2, e3] at hM2
  obtain ⟨n, o, k1, k2, k3, k4⟩ := hM2 p e hadm hcas hclk s m as below hf hs ⟨hP1, hlo, hP3⟩ hK
  refine ⟨n, o, k1, k2, k3, ?_⟩
  rcases k4 with ⟨⟨g1, g2⟩, g3⟩ | ⟨q, g0, Ex, ce, L, ⟨x1, x2⟩, g2⟩
  · exact Or.inl ⟨⟨g1, SL', O', A', g2⟩, g3⟩
  · exact Or.inr ⟨q, g0, Ex, ce, L, ⟨x1, SL', O', A', x2⟩, g2⟩
theorem MSW_lift {Γ : GG} {HI : St → Heap → Prop} {l : Launch} (E : EH Γ HI l) {y : MethodName} {b : ByteArray} {mL : Nat} {rt : Option FieldType} {rk : Nat} {hh : List (Nat × Nat × Nat × Nat)} {S S' : St} {args : List TV} {res : Option TV ⊕ String} (hm : S.2.1 ≤ S'.2.1 ∧ S.2.2.1 ≤ S'.2.2.1)
    (h : ∀ SL O, Abs S SL O → ∃ SL' O', MSW Γ (HIlo Γ) l y b mL rt hh rk SL args res SL' ∧ Abs S' SL' O') : MSW Γ HI l y b mL rt hh rk S args res S' := by
  refine ⟨fun _ => hm, ?_⟩
  obtain ⟨rfl, -⟩ := E
  intro p e hadm hcas hclk s m as below hf hs hP hK
  obtain ⟨hP1, ⟨SL, O, A, hlo⟩, hP3⟩ := hP
  obtain ⟨SL', O', hM, A'⟩ := h SL O A
  have hM2 := hM.2
  have e1 : MRm rk SL SL' = MRm rk S S' := by simp only [MRm, A.1, A'.1]
  have e2 : SL'.2.1 - SL.2.1 = S'.2.1 - S.2.1 := by rw [A.1, A'.1]
  have e3 : SL'.2.2.1 - SL.2.2.1 = S'.2.2.1 - S.2.2.1 := by rw [A.1, A'.1]
  rw [e1, e2, e3] at hM2
  obtain ⟨n, o, k1, k2, k3, k4⟩ := hM2 p e hadm hcas hclk s m as below hf hs ⟨hP1, hlo, hP3⟩ hK
  refine ⟨n, o, k1, k2, k3, ?_⟩
  rcases k4 with ⟨⟨g1, g2⟩, g3⟩ | ⟨q, g0, Ex, ce, L, ⟨x1, x2⟩, g2⟩
  · exact Or.inl ⟨⟨g1, SL', O', A', g2⟩, g3⟩
  · exact Or.inr ⟨q, g0, Ex, ce, L, ⟨x1, SL', O', A', x2⟩, g2⟩
