/-! THE PLAIN LAW, no machine in sight. Loops, numbers, lists -/
section
variable {β γ : Type}
/-- a loop upwards, without state: what it comes to -/
theorem lp_up (L : Nat → Nat → β) (n : Nat) (r : β) (P : Nat → Prop) (hs : ∀ m k, k < n → P k → (P (k + 1) ∧ L (m + 1) k = L m (k + 1)) ∨ L (m + 1) k = r) (he : ∀ m, P n → L (m + 1) n = r) : ∀ m k, k ≤ n → n - k < m → P k → L m k = r := by
  intro m
  induction m with
  | zero => intro k _ h _; omega
  | succ m ih =>
    intro k hk hm hP
    by_cases h : k = n
    · subst h; exact he m hP
    · rcases hs m k (by omega) hP with ⟨h1, h2⟩ | h1
      · rw [h2]; exact ih (k + 1) (by omega) (by omega) h1
      · exact h1
theorem lp_u0 (L : Nat → Nat → β) (n : Nat) (r : β) (hs : ∀ m k, k < n → L (m + 1) k = L m (k + 1)) (he : ∀ m, L (m + 1) n = r) {m : Nat} (hm : n < m) : L m 0 = r :=
  lp_up L n r (fun _ => True) (fun m k hk _ => Or.inl ⟨trivial, hs m k hk⟩) (fun m _ => he m) m 0 (Nat.zero_le _) (by omega) trivial
/-- a loop downwards: k of them are left -/
theorem lp_dn (L : Nat → Nat → β) (r : β) (hs : ∀ m k, L (m + 1) (k + 1) = L m k) (he : ∀ m, L (m + 1) 0 = r) : ∀ m k, k < m → L m k = r := by
  intro m
  induction m with
  | zero => intro k h; omega
  | succ m ih =>
    intro k hk
    cases k with
    | zero => exact he m
    | succ k => rw [hs m k]; exact ih k (by omega)
/-- a loop with a state -/
theorem lp_ex (L : Nat → Nat → γ → Option β) (P : Nat → γ → Prop) (Q : β → Prop) (n : Nat) (hs : ∀ m k c, k < n → P k c → (∃ c', P (k + 1) c' ∧ L (m + 1) k c = L m (k + 1) c') ∨ ∃ b, L (m + 1) k c = some b ∧ Q b) (he : ∀ m c, P n c → ∃ b, L (m + 1) n c = some b ∧ Q b) : ∀ m k c, k ≤ n → n - k < m → P k c → ∃ b, L m k c = some b ∧ Q b := by
  intro m
  induction m with
  | zero => intro k c _ h _; omega
  | succ m ih =>
    intro k c hk hm hP
    by_cases h : k = n
    · subst h; exact he m c hP
    · rcases hs m k c (by omega) hP with ⟨c', h1, h2⟩ | h1
      · rw [h2]; exact ih (k + 1) c' (by omega) (by omega) h1
      · exact h1
/-- .. downwards -/
theorem lp_exd (L : Nat → Nat → γ → Option β) (P : Nat → γ → Prop) (Q : β → Prop) (hs : ∀ m k c, P (k + 1) c → (∃ c', P k c' ∧ L (m + 1) (k + 1) c = L m k c') ∨ ∃ b, L (m + 1) (k + 1) c = some b ∧ Q b) (he : ∀ m c, P 0 c → ∃ b, L (m + 1) 0 c = some b ∧ Q b) : ∀ m k c, k < m → P k c → ∃ b, L m k c = some b ∧ Q b := by
  intro m
  induction m with
  | zero => intro k c h _; omega
  | succ m ih =>
    intro k c hk hP
    cases k with
    | zero => exact he m c hP
    | succ k =>
      rcases hs m k c hP with ⟨c', h1, h2⟩ | h1
      · rw [h2]; exact ih k c' (by omega) h1
      · exact h1
end
/-! booleans as ints -/
def b2i (b : Bool) : Int32 := if b then 1 else 0
theorem b2i_t : b2i true = 1 := rfl
theorem b2i_f : b2i false = 0 := rfl
theorem b2i_0 (b : Bool) : (b2i b = 0) = (b = false) := by cases b <;> simp [b2i]
theorem b2i_1 (b : Bool) : (b2i b = 1) = (b = true) := by cases b <;> simp [b2i]
theorem b2i_01 (b : Bool) : b2i b = 0 ∨ b2i b = 1 := by cases b <;> simp [b2i]
theorem b2i_inj {a b : Bool} : (b2i a = b2i b) = (a = b) := by cases a <;> cases b <;> simp [b2i]
theorem fit_b (b : Bool) : gfit .boolean (b2i b) = true := by simp only [gfit, decide_eq_true_eq]; exact b2i_01 b
theorem fit_i (x : Int32) : gfit .int x = true := rfl
theorem rt_b {ε : Type} (f : Int32 → ε) (b : Bool) (S : St) : rtI f .boolean (b2i b) S = some (f (b2i b), S) := by simp only [rtI, fit_b, if_true]
theorem rt_b0 {ε : Type} (f : Int32 → ε) (S : St) : rtI f .boolean 0 S = some (f (b2i false), S) := rt_b f false S
theorem rt_b1 {ε : Type} (f : Int32 → ε) (S : St) : rtI f .boolean 1 S = some (f (b2i true), S) := rt_b f true S
theorem rt_i {ε : Type} (f : Int32 → ε) (x : Int32) (S : St) : rtI f .int x S = some (f x, S) := by simp only [rtI, gfit, if_true]
theorem bn_s {α β : Type} (a : α) (S : St) (f : α → St → Option β) : bn (some (a, S)) f = f a S := rfl
theorem tbn_s {α β : Type} (a : α) (S : St) (f : α → St → Option ((β ⊕ String) × St)) : tbn (some (Sum.inl a, S)) f = f a S := rfl
theorem tbn_x {α β : Type} (e : String) (S : St) (f : α → St → Option ((β ⊕ String) × St)) : tbn (some ((Sum.inr e : α ⊕ String), S)) f = some (Sum.inr e, S) := rfl
theorem gd_t {β : Type} (x : Option β) : gd true x = x := rfl
theorem ob_s {α β : Type} (a : α) (f : α → Option β) : (some a).bind f = f a := rfl
/-! literals -/
theorem li_0 : (0 : Int32) = nI 0 := by decide +kernel
theorem li_1 : (1 : Int32) = nI 1 := by decide +kernel
theorem li_3 : (3 : Int32) = nI 3 := by decide +kernel
theorem li_8 : (8 : Int32) = nI 8 := by decide +kernel
theorem li_20 : (20 : Int32) = nI 20 := by decide +kernel
theorem li_60 : (60 : Int32) = nI 60 := by decide +kernel
theorem li_100 : (100 : Int32) = nI 100 := by decide +kernel
theorem nI_mul (a b : Nat) : nI a * nI b = nI (a * b) := (Int32.ofNat_mul a b).symm
theorem nI_subI {a b : Nat} (h : b ≤ a) : nI a - nI b = nI (a - b) := by
  have e : nI a = nI (a - b) + nI b := by rw [nI_add, Nat.sub_add_cancel h]
  rw [e]; exact Int32.add_sub_cancel _ _
theorem nI_ne {a b : Nat} (h : a ≠ b) (ha : a < 2 ^ 31) (hb : b < 2 ^ 31) : nI a ≠ nI b := fun e => h ((nI_eq ha hb).mp e)
theorem nI_neg1 {a : Nat} (h : a < 2 ^ 31) : nI a ≠ (-1 : Int32) := fun e => by
  have h2 := nI_pos' h
  rw [e] at h2
  exact absurd h2 (by decide)
theorem nI_neg1' {a : Nat} (h : a < 2 ^ 31) : (-1 : Int32) ≠ nI a := fun e => nI_neg1 h e.symm
theorem nI_m1 (k : Nat) : nI (k + 1) + (-1) = nI k := (Int32.sub_eq_add_neg (nI (k + 1)) 1).symm.trans (nI_pred k)
theorem i_sub1 (x : Int32) : x - 1 = x + (-1) := Int32.sub_eq_add_neg x 1
theorem neg1_lt0 : (-1 : Int32) < 0 := by decide
/-! quantifiers below a number -/
def exB (p : Nat → Bool) : Nat → Bool
  | 0 => false
  | n + 1 => exB p n || p n
def cnB (p : Nat → Bool) : Nat → Nat
  | 0 => 0
  | n + 1 => cnB p n + (if p n then 1 else 0)
theorem exB_iff {p : Nat → Bool} {n : Nat} : exB p n = true ↔ ∃ k, k < n ∧ p k = true := by
  induction n with
  | zero => simp [exB]
  | succ n ih =>
    simp only [exB, Bool.or_eq_true, ih]
    constructor
    · rintro (⟨k, h1, h2⟩ | h)
      · exact ⟨k, by omega, h2⟩
      · exact ⟨n, by omega, h⟩
    · rintro ⟨k, h1, h2⟩
      by_cases e : k = n
      · subst e; exact Or.inr h2
      · exact Or.inl ⟨k, by omega, h2⟩
theorem exB_congr {p q : Nat → Bool} {n : Nat} (h : ∀ k, k < n → p k = q k) : exB p n = exB q n := by
  induction n with
  | zero => rfl
  | succ n ih => simp only [exB]; rw [ih (fun k hk => h k (by omega)), h n (by omega)]
theorem cnB_congr {p q : Nat → Bool} {n : Nat} (h : ∀ k, k < n → p k = q k) : cnB p n = cnB q n := by
  induction n with
  | zero => rfl
  | succ n ih => simp only [cnB]; rw [ih (fun k hk => h k (by omega)), h n (by omega)]
theorem cnB_le (p : Nat → Bool) (n : Nat) : cnB p n ≤ n := by
  induction n with
  | zero => exact Nat.le_refl _
  | succ n ih => simp only [cnB]; split <;> omega
theorem cnB_mono {p q : Nat → Bool} {n : Nat} (h : ∀ k, k < n → p k = true → q k = true) : cnB p n ≤ cnB q n := by
  induction n with
  | zero => exact Nat.le_refl _
  | succ n ih =>
    simp only [cnB]
    have h1 := ih (fun k hk => h k (by omega))
    have h2 := h n (by omega)
    split
    · next e => rw [if_pos (h2 e)]; omega
    · split <;> omega
theorem cnB_lt {p q : Nat → Bool} {n j : Nat} (h : ∀ k, k < n → p k = true → q k = true) (hj : j < n) (h1 : p j = false) (h2 : q j = true) : cnB p n + 1 ≤ cnB q n := by
  induction n with
  | zero => omega
  | succ n ih =>
    simp only [cnB]
    by_cases e : j = n
    · subst e
      have := cnB_mono (p := p) (q := q) (n := j) (fun k hk => h k (by omega))
      rw [h1, h2]; simp; omega
    · have h3 := ih (fun k hk => h k (by omega)) (by omega)
      have h4 := h n (by omega)
      split
      · next e2 => rw [if_pos (h4 e2)]; omega
      · split <;> omega
/-! a function with one value changed -/
def fu {α : Type} (g : Nat → α) (k : Nat) (v : α) : Nat → α := fun j => if j = k then v else g j
theorem fu_s {α : Type} (g : Nat → α) (k : Nat) (v : α) : fu g k v k = v := by simp [fu]
theorem fu_n {α : Type} (g : Nat → α) {k j : Nat} (v : α) (h : j ≠ k) : fu g k v j = g j := by simp [fu, h]
/-! lists of numbers below a bound, each once -/
theorem nd_len : ∀ (n : Nat) (l : List Nat), l.Nodup → (∀ x ∈ l, x < n) → l.length ≤ n := by
  intro n
  induction n with
  | zero =>
    intro l _ h
    cases l with
    | nil => exact Nat.le_refl _
    | cons a l => exact absurd (h a List.mem_cons_self) (by omega)
  | succ n ih =>
    intro l hd h
    by_cases hm : n ∈ l
    · have h1 := ih (l.erase n) (hd.erase n) (fun x hx => by
        have h2 := h x (List.mem_of_mem_erase hx)
        have h3 : x ≠ n := fun e => by
          subst e
          exact absurd hx (hd.not_mem_erase)
        omega)
      rw [List.length_erase_of_mem hm] at h1
      omega
    · have := ih l hd (fun x hx => by
        have h2 := h x hx
        have h3 : x ≠ n := fun e => hm (e ▸ hx)
        omega)
      omega
