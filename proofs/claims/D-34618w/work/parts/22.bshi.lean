/-! BitSet over the high heap (its first rows began as starting texts: kit/laws, BITS) -/
theorem nx_and (a b : Nat) : nI a &&& nI b = nI (a &&& b) := by
  apply Int32.toBitVec_inj.1
  show BitVec.ofNat 32 a &&& BitVec.ofNat 32 b = BitVec.ofNat 32 (a &&& b)
  apply BitVec.eq_of_getLsbD_eq
  intro i hi
  simp [hi]
theorem nx_xor (a b : Nat) : nI a ^^^ nI b = nI (a ^^^ b) := by
  apply Int32.toBitVec_inj.1
  show BitVec.ofNat 32 a ^^^ BitVec.ofNat 32 b = BitVec.ofNat 32 (a ^^^ b)
  apply BitVec.eq_of_getLsbD_eq
  intro i hi
  simp [hi]
theorem wb_tb (n : Nat) : (lN n).toBitVec = BitVec.ofNat 64 n := rfl
theorem wb_inj {a b : Int64} (h : a.toBitVec = b.toBitVec) : a = b := Int64.toBitVec_inj.mp h
theorem wb_tn {n : Nat} (h : n < 2 ^ 64) : (lN n).toBitVec.toNat = n := by rw [wb_tb, BitVec.toNat_ofNat, Nat.mod_eq_of_lt h]
theorem wb_of (x : Int64) : ∃ n, n < 2 ^ 64 ∧ x = lN n := ⟨x.toBitVec.toNat, x.toBitVec.isLt, wb_inj (by rw [wb_tb]; simp)⟩
theorem wb_of32 (x : Int32) : ∃ n, n < 2 ^ 32 ∧ x = nI n := ⟨x.toBitVec.toNat, x.toBitVec.isLt, Int32.toBitVec_inj.mp (by show _ = BitVec.ofNat 32 _; simp)⟩
theorem wb_c : ∀ k, k < 64 → ((nI k).toInt64 &&& 63) = lN k := by decide +kernel
theorem wb_cu : ∀ k, k < 64 → ((nI k).toInt64.toUInt64 &&& Int64.toUInt64 63) = UInt64.ofNat k := by decide +kernel
theorem wb_sm : ∀ k, k < 64 → (BitVec.ofNat 64 k).smod 64 = BitVec.ofNat 64 k := by decide +kernel
theorem wb_pw {a b : Nat} (h : a ≤ b) : 2 ^ b = 2 ^ a * 2 ^ (b - a) := by rw [← Nat.pow_add]; congr 1; omega
theorem wb_lt2 {a b : Nat} (h : a < b) : 2 ^ a < 2 ^ b := Nat.pow_lt_pow_right (by decide) h
theorem wb_mod (n : Nat) : lN n = lN (n % 2 ^ 64) := wb_inj (by rw [wb_tb, wb_tb]; apply BitVec.eq_of_toNat_eq; rw [BitVec.toNat_ofNat, BitVec.toNat_ofNat, Nat.mod_mod])
theorem wb_shr {n k : Nat} (hn : n < 2 ^ 64) (hk : k < 64) : ((lN n).toUInt64 >>> ((nI k).toInt64.toUInt64 &&& Int64.toUInt64 63)).toInt64 = lN (n / 2 ^ k) := by
  rw [wb_cu k hk]
  apply wb_inj
  apply BitVec.eq_of_toNat_eq
  show ((lN n).toUInt64 >>> UInt64.ofNat k).toNat = (BitVec.ofNat 64 _).toNat
  have h1 : (UInt64.ofNat k).toNat = k := by
    show (BitVec.ofNat 64 k).toNat = k
    rw [BitVec.toNat_ofNat, Nat.mod_eq_of_lt (by omega)]
  have h2 : (lN n).toUInt64.toNat = n := wb_tn hn
  rw [UInt64.toNat_shiftRight, h1, h2, Nat.mod_eq_of_lt hk, Nat.shiftRight_eq_div_pow, BitVec.toNat_ofNat, Nat.mod_eq_of_lt (Nat.lt_of_le_of_lt (Nat.div_le_self _ _) hn)]
theorem wb_shl (n : Nat) {k : Nat} (hk : k < 64) : lN n <<< ((nI k).toInt64 &&& 63) = lN (n * 2 ^ k) := by
  rw [wb_c k hk]
  apply wb_inj
  rw [Int64.toBitVec_shiftLeft, wb_tb, wb_tb, wb_tb, wb_sm k hk]
  apply BitVec.eq_of_toNat_eq
  rw [BitVec.shiftLeft_eq', BitVec.toNat_shiftLeft, BitVec.toNat_ofNat, BitVec.toNat_ofNat, BitVec.toNat_ofNat, Nat.mod_eq_of_lt (show k < 2 ^ 64 by omega), Nat.shiftLeft_eq, Nat.mul_mod, Nat.mod_mod, ← Nat.mul_mod]
theorem wb_and {a b : Nat} (ha : a < 2 ^ 64) (hb : b < 2 ^ 64) : lN a &&& lN b = lN (a &&& b) := by
  apply wb_inj
  rw [Int64.toBitVec_and, wb_tb, wb_tb, wb_tb]
  apply BitVec.eq_of_toNat_eq
  rw [BitVec.toNat_and, BitVec.toNat_ofNat, BitVec.toNat_ofNat, BitVec.toNat_ofNat, Nat.mod_eq_of_lt ha, Nat.mod_eq_of_lt hb, Nat.mod_eq_of_lt (Nat.and_lt_two_pow _ hb)]
theorem wb_or {a b : Nat} (ha : a < 2 ^ 64) (hb : b < 2 ^ 64) : lN a ||| lN b = lN (a ||| b) := by
  apply wb_inj
  rw [Int64.toBitVec_or, wb_tb, wb_tb, wb_tb]
  apply BitVec.eq_of_toNat_eq
  rw [BitVec.toNat_or, BitVec.toNat_ofNat, BitVec.toNat_ofNat, BitVec.toNat_ofNat, Nat.mod_eq_of_lt ha, Nat.mod_eq_of_lt hb, Nat.mod_eq_of_lt (Nat.or_lt_two_pow ha hb)]
theorem wb_mask {n k : Nat} (hn : n < 2 ^ 64) (hk : k < 64) : lN n &&& lN (2 ^ k - 1) = lN (n % 2 ^ k) := by
  rw [wb_and hn (by have := wb_lt2 hk; omega), Nat.and_two_pow_sub_one_eq_mod]
theorem wb_a1 {n : Nat} (hn : n < 2 ^ 64) : lN n &&& 1 = lN (n % 2) := wb_mask (k := 1) hn (by decide)
theorem gbsc_s {S : St} {r : Option Nat} {q : Nat} {w : Int64} (h : gbsc S r = some (q, w)) : r = some q ∧ S.1 q = some (cBS w) := by
  unfold gbsc at h
  split at h
  · next q w hc => cases h; exact gcell_some hc
  · cases h
theorem nI_mod32 (n : Nat) : nI n = nI (n % 2 ^ 32) := by
  refine Int32.toBitVec_inj.mp (BitVec.eq_of_toNat_eq ?_)
  simp [nI]
theorem ctz_low {m k : Nat} (hm : m < 2 ^ 32) (hk : k < 32) (hb : m.testBit k = true) (hl : ∀ j, j < k → m.testBit j = false) : (m ^^^ (2 ^ 32 - 1)) &&& (m - 1) = 2 ^ k - 1 := by
  have h1 : m = 2 ^ (k + 1) * (m / 2 ^ (k + 1)) + 2 ^ k := by
    refine Nat.eq_of_testBit_eq fun j => ?_
    rw [Nat.testBit_two_pow_mul_add _ (Nat.pow_lt_pow_right (by decide) (by omega))]
    by_cases h : j < k + 1
    · rw [if_pos h, Nat.testBit_two_pow]
      by_cases h2 : k = j
      · subst h2; rw [hb]; simp
      · rw [hl j (by omega)]; simp [h2]
    · rw [if_neg h, Nat.testBit_div_two_pow, show j - (k + 1) + (k + 1) = j by omega]
  have hp : 0 < 2 ^ k := Nat.pow_pos (by decide)
  have h2 : m - 1 = 2 ^ (k + 1) * (m / 2 ^ (k + 1)) + (2 ^ k - 1) := by omega
  refine Nat.eq_of_testBit_eq fun j => ?_
  rw [Nat.testBit_and, Nat.testBit_xor, Nat.testBit_two_pow_sub_one, Nat.testBit_two_pow_sub_one, h2, Nat.testBit_two_pow_mul_add _ (by have := Nat.pow_lt_pow_right (a := 2) (by decide) (show k < k + 1 by omega); omega), Nat.testBit_two_pow_sub_one]
  by_cases h : j < k + 1
  · rw [if_pos h]
    by_cases h3 : j < k
    · rw [hl j h3]; simp [h3, show j < 32 by omega]
    · simp [h3]
  · rw [if_neg h, Nat.testBit_div_two_pow, show j - (k + 1) + (k + 1) = j by omega]
    by_cases h3 : j < 32
    · simp [h3]; omega
    · have : m.testBit j = false := Nat.testBit_lt_two_pow (Nat.lt_of_lt_of_le hm (Nat.pow_le_pow_right (by decide) (by omega)))
      simp [this]; omega
/-- what numberOfTrailingZeros does with ~x & (x - 1) -/
def pz1 (x n : Int32) : Int32 := n + ((x.toUInt32 >>> ((1 : Int32).toUInt32 &&& Int32.toUInt32 31)).toInt32)
def pz2 (x n : Int32) : Int32 := if x ≤ (4 : Int32) then pz1 x n else pz1 ((x.toUInt32 >>> ((2 : Int32).toUInt32 &&& Int32.toUInt32 31)).toInt32) (n + 2)
def pz3 (x n : Int32) : Int32 := if x ≤ (16 : Int32) then pz2 x n else pz2 ((x.toUInt32 >>> ((4 : Int32).toUInt32 &&& Int32.toUInt32 31)).toInt32) (n + 4)
def pz4 (x n : Int32) : Int32 := if x ≤ (256 : Int32) then pz3 x n else pz3 ((x.toUInt32 >>> ((8 : Int32).toUInt32 &&& Int32.toUInt32 31)).toInt32) (n + 8)
def pz5 (x : Int32) : Int32 := if 0 < x then (if x ≤ (65536 : Int32) then pz4 x 1 else pz4 ((x.toUInt32 >>> ((16 : Int32).toUInt32 &&& Int32.toUInt32 31)).toInt32) (1 + 16)) else x &&& 32
theorem pz_all : ∀ k, k < 32 → pz5 (nI (2 ^ k - 1)) = nI k := by decide +kernel
theorem pz_den (S : St) (x : Int32) : n_J23_numberOfTrailingZeros S x = some (pz5 ((x ^^^ (-1 : Int32)) &&& (x - (1 : Int32))), S) := by
  have h1 : ∀ y n, n_J23_numberOfTrailingZeros_b74 S y n = some (pz1 y n, S) := fun y n => rfl
  have h2 : ∀ y n, n_J23_numberOfTrailingZeros_b62 S y n = some (pz2 y n, S) := fun y n => by
    unfold n_J23_numberOfTrailingZeros_b62 pz2
    split <;> exact h1 _ _
  have h3 : ∀ y n, n_J23_numberOfTrailingZeros_b49 S y n = some (pz3 y n, S) := fun y n => by
    unfold n_J23_numberOfTrailingZeros_b49 pz3
    split <;> exact h2 _ _
  have h4 : ∀ y n, n_J23_numberOfTrailingZeros_b34 S y n = some (pz4 y n, S) := fun y n => by
    unfold n_J23_numberOfTrailingZeros_b34 pz4
    split <;> exact h3 _ _
  unfold n_J23_numberOfTrailingZeros pz5
  split
  · split <;> exact h4 _ _
  · rfl
theorem ctz32 (S : St) {m k : Nat} (hm : m < 2 ^ 32) (hk : k < 32) (hb : m.testBit k = true) (hl : ∀ j, j < k → m.testBit j = false) : n_J23_numberOfTrailingZeros S (nI m) = some (nI k, S) := by
  have h0 : 1 ≤ m := by
    refine Nat.pos_of_ne_zero fun h => ?_
    rw [h, Nat.zero_testBit] at hb; cases hb
  rw [pz_den, show (-1 : Int32) = nI (2 ^ 32 - 1) by decide, nx_xor, show (1 : Int32) = nI 1 from rfl, pk_sub h0, nx_and, ctz_low hm hk hb hl, pz_all k hk]
theorem ctz64 (S : St) {m k : Nat} (hm : m < 2 ^ 64) (hk : k < 64) (hb : m.testBit k = true) (hl : ∀ j, j < k → m.testBit j = false) : n_J34_numberOfTrailingZeros S (lN m) = some (nI k, S) := by
  unfold n_J34_numberOfTrailingZeros
  rw [lN_i, nI_mod32]
  have h32 : m % 2 ^ 32 < 2 ^ 32 := Nat.mod_lt _ (by decide)
  have htb : ∀ j, (m % 2 ^ 32).testBit j = (decide (j < 32) && m.testBit j) := fun j => Nat.testBit_mod_two_pow ..
  by_cases hk2 : k < 32
  · have h1 : (m % 2 ^ 32).testBit k = true := by rw [htb, hb]; simp [hk2]
    have h0 : ¬ nI (m % 2 ^ 32) = 0 := fun h => by
      have h5 := congrArg (fun x : Int32 => x.toBitVec.toNat) h
      simp only [pk_tn h32] at h5
      rw [show m % 2 ^ 32 = 0 from h5, Nat.zero_testBit] at h1
      cases h1
    rw [if_neg h0, bn_of (ctz32 S h32 hk2 h1 fun j hj => by rw [htb, hl j hj, Bool.and_false])]
    rfl
  · have h0 : m % 2 ^ 32 = 0 := by
      refine Nat.eq_of_testBit_eq fun j => ?_
      rw [htb, Nat.zero_testBit]
      by_cases hj : j < 32
      · rw [hl j (by omega), Bool.and_false]
      · simp [hj]
    rw [h0, if_pos (show nI 0 = 0 from rfl)]
    have hsh := wb_shr (n := m) (k := 32) hm (by decide)
    rw [show (32 : Int32).toInt64 = (nI 32).toInt64 from rfl, hsh, lN_i]
    have hd : m / 2 ^ 32 < 2 ^ 32 := Nat.div_lt_of_lt_mul (by omega)
    rw [bn_of (ctz32 S hd (k := k - 32) (by omega) (by rw [Nat.testBit_div_two_pow, show k - 32 + 32 = k by omega]; exact hb) fun j hj => by rw [Nat.testBit_div_two_pow]; exact hl _ (by omega))]
    rw [show (32 : Int32) = nI 32 from rfl, nI_add, show 32 + (k - 32) = k by omega]
    rfl
theorem lN_0 {n : Nat} (h : n < 2 ^ 64) : lN n = 0 ↔ n = 0 := by
  constructor
  · intro h1
    have h5 := congrArg (fun x : Int64 => x.toBitVec.toNat) h1
    simp only [wb_tn h] at h5
    exact h5
  · intro h1; rw [h1]; rfl
theorem bbit_e {k : Nat} (hk : k < 64) : bbit (nI k) = lN (2 ^ k) := by
  unfold bbit
  rw [show (1 : Int64) = lN 1 from rfl, wb_shl 1 hk, Nat.one_mul]
theorem bbit_and {n k : Nat} (hn : n < 2 ^ 64) (hk : k < 64) : lN n &&& bbit (nI k) = 0 ↔ n.testBit k = false := by
  have h2 := wb_lt2 hk
  rw [bbit_e hk, wb_and hn h2, lN_0 (Nat.lt_of_le_of_lt Nat.and_le_left hn)]
  constructor
  · intro h
    have h5 := congrArg (fun x => Nat.testBit x k) h
    simp only [Nat.testBit_and, Nat.testBit_two_pow_self, Bool.and_true, Nat.zero_testBit] at h5
    exact h5
  · intro h
    refine Nat.eq_of_testBit_eq fun j => ?_
    rw [Nat.testBit_and, Nat.testBit_two_pow, Nat.zero_testBit]
    by_cases hj : k = j
    · rw [← hj, h]; rfl
    · simp [hj]
theorem msk_e {n i : Nat} (hn : n < 2 ^ 64) (hi : i < 64) : ∃ m, m < 2 ^ 64 ∧ lN n &&& ((-1 : Int64) <<< ((nI i).toInt64 &&& 63)) = lN m ∧ ∀ j, j < 64 → m.testBit j = (decide (i ≤ j) && n.testBit j) := by
  have e1 : (-1 : Int64) = lN (2 ^ 64 - 1) := by decide
  have hm := Nat.mod_lt ((2 ^ 64 - 1) * 2 ^ i) (show 0 < 2 ^ 64 by decide)
  refine ⟨n &&& ((2 ^ 64 - 1) * 2 ^ i % 2 ^ 64), Nat.lt_of_le_of_lt Nat.and_le_left hn, ?_, fun j hj => ?_⟩
  · rw [e1, wb_shl _ hi, wb_mod ((2 ^ 64 - 1) * 2 ^ i), wb_and hn hm]
  · rw [Nat.testBit_and, Nat.testBit_mod_two_pow, Nat.testBit_mul_two_pow, Nat.testBit_two_pow_sub_one]
    by_cases h : i ≤ j
    · simp [h, hj]; omega
    · simp [h]
/-- the first bit at or behind i -/
theorem nsb_e {n : Nat} (hn : n < 2 ^ 64) : ∀ (f i : Nat), i + f = 64 → (∃ k, i ≤ k ∧ k < 64 ∧ n.testBit k = true ∧ (∀ j, i ≤ j → j < k → n.testBit j = false) ∧ nsb (lN n) f i = nI k) ∨ ((∀ j, i ≤ j → j < 64 → n.testBit j = false) ∧ nsb (lN n) f i = -1)
  | 0, i, h => Or.inr ⟨fun j h1 h2 => by omega, rfl⟩
  | f + 1, i, h => by
    unfold nsb
    have hbi := bbit_and hn (show i < 64 by omega)
    by_cases hb : n.testBit i = false
    · rw [if_pos (hbi.mpr hb)]
      rcases nsb_e hn f (i + 1) (by omega) with ⟨k, h1, h2, h3, h4, h5⟩ | ⟨h1, h2⟩
      · refine Or.inl ⟨k, by omega, h2, h3, fun j g1 g2 => ?_, h5⟩
        by_cases hj : j = i
        · rw [hj]; exact hb
        · exact h4 j (by omega) g2
      · refine Or.inr ⟨fun j g1 g2 => ?_, h2⟩
        by_cases hj : j = i
        · rw [hj]; exact hb
        · exact h1 j (by omega) g2
    · rw [if_neg (fun h => hb (hbi.mp h))]
      refine Or.inl ⟨i, Nat.le_refl _, by omega, ?_, fun j g1 g2 => by omega, rfl⟩
      cases h9 : n.testBit i with
      | true => rfl
      | false => exact absurd h9 hb
theorem ctz_iff (S : St) {m : Nat} (hm : m < 2 ^ 64) {k : Nat} (hk : k < 64) (hb : m.testBit k = true) (hl : ∀ j, j < k → m.testBit j = false) : n_J34_numberOfTrailingZeros S (lN m) = some (nI k, S) := ctz64 S hm hk hb hl
/-! the methods -/
theorem shr6_e {i : Nat} (hi : i < 64) : nI i >>> ((6 : Int32) &&& 31) = 0 := by
  rw [pk_shrN (by omega) _ 6 (by decide), show i / 2 ^ 6 = 0 by omega]
  rfl
theorem i64_of {i : Int32} (h : 0 ≤ i ∧ i < 64) : ∃ j, j < 64 ∧ i = nI j := by
  obtain ⟨j, hj, rfl⟩ := nI_of (Int32.not_lt.mpr h.1)
  exact ⟨j, (nI_ltI (b := 64) hj (by omega)).mp h.2, rfl⟩
theorem inv_e (S : St) (q : Option Nat) : n_J5_checkInvariants S q = some ((), S) := by
  unfold n_J5_checkInvariants n_J5_checkInvariants_b37 n_J5_checkInvariants_b70
  rw [if_neg (by decide), if_neg (by decide), if_neg (by decide)]
theorem gcmp_0 (x : Int64) : gcmp x 0 = 0 ↔ x = 0 := by
  unfold gcmp lg_cmp
  split
  · next h => exact ⟨fun h1 => absurd h1 (by decide), fun h1 => by rw [h1] at h; exact absurd h (by decide)⟩
  · split
    · next h => exact ⟨fun _ => h, fun _ => rfl⟩
    · next h => exact ⟨fun h1 => absurd h1 (by decide), fun h1 => absurd h1 h⟩
theorem ab_J5_init {S SL S1 : St} {O : Nat → Option Nat} {a0 : Option Nat} {n : Int32} {r : Unit} (h : h_J5_init S a0 n = some (r, S1)) (A : Abs S SL O) : ∃ SL' O', n_J5_init SL a0 n = some (r, SL') ∧ Abs S1 SL' O' := by
  obtain ⟨⟨q, fs⟩, ho, hb1⟩ := Option.bind_eq_some_iff.mp h
  obtain ⟨rfl, hS⟩ := gobj_some ho
  simp only at hb1
  split at hb1
  case isFalse => cases hb1
  next hf =>
  obtain ⟨hf, rfl⟩ := hf
  subst hf
  cases hb1
  have hq : SL.1 q = some (cO 10 [vR none, vI 0, vI 0]) := (A.2.2.2 q _ hS).2
  have hql := (A.2.2.2 q _ hS).1
  have hsz : SL.2.1 = S.2.1 := by rw [A.1]
  have hqn : q ≠ SL.2.1 := by omega
  have hna := naB_e (α := Unit × St) (sup SL q (cO 10 [vR none, vI 0, vI 0])) (k := 3) (n := 1) (by omega)
  have e1 : (60 : Int32) - 1 = nI 59 := by decide
  have e2 := shr6_e (i := 59) (by omega)
  refine ⟨?w, fO O S q, ?e, Abs_fresh A hS (e' := cBS 0) rfl ?s (fun b h1 _ h3 => ?r) ⟨SL.2.1, fun _ => gdef 3, 0, ?q, Or.inl ⟨rfl, rfl⟩, if_pos hsz, ?a, rfl⟩⟩
  case e =>
    unfold n_J5_init n_J5_initWords n_J5_wordIndex
    rw [e1, e2]
    simp only [gd, Option.isSome_some, if_true, pI_e hq]
    simp [pI, pR, pF, gfit, gobj, gcell, hq, sup_1, sup_sup, grc, gclsOf, bn, rtI]
    rw [show (1 : Int32) = nI 1 from rfl, hna]
    simp [sup_1, spu_1, sup_2, hqn, sup_sup]
    rfl
  case s => simp only [sup, spu, ssk, A.1]
  case r => rw [sup_ne _ _ h1, spu_lt _ _ _ (by show b < SL.2.1; omega), sup_ne _ _ h1]
  case q => rw [sup_at]; rfl
  case a => rw [sup_ne _ _ (Ne.symm hqn)]; exact spu_at (sup SL q (cO 10 [vR none, vI 0, vI 0])) _ _
theorem hm_J5_init {S S1 : St} {a0 : Option Nat} {n : Int32} {r : Unit} (h : h_J5_init S a0 n = some (r, S1)) : S.2.1 ≤ S1.2.1 ∧ S.2.2.1 ≤ S1.2.2.1 := by
  obtain ⟨o, h1⟩ := hm_bind h
  split at h1
  · cases h1
    exact ⟨Nat.le_succ _, Nat.le_add_right _ _⟩
  · cases h1
theorem Abs_bs {S SL SL' : St} {O : Nat → Option Nat} {q a : Nat} {w w' : Int64} {u : Int32} {f : Nat → TV} (A : Abs S SL O) (hS : S.1 q = some (cBS w)) (hO : O a = some q) (h2 : SL'.2 = SL.2) (hq : SL'.1 q = some (cO 10 [vR (some a), vI u, vI 1])) (hu : u = 0 ∧ w' = 0 ∨ u = 1) (ha : SL'.1 a = some (cA 3 1 f)) (hf : f 0 = vL w') (hr : ∀ b, b ≠ q → b ≠ a → SL'.1 b = SL.1 b) : Abs (sup S q (cBS w')) SL' O :=
  Abs_up A hS (e' := cBS w') rfl (fun _ => rfl) (h2.trans A.1) rfl (Nat.le_refl _) (fun b h1 h3 _ => hr b h1 fun h => h3 (h ▸ hO)) (fun _ _ _ => rfl) (fun b c h => Or.inl ⟨h, (A.2.2.1 b c h).2⟩) ⟨a, f, u, hq, hu, hO, ha, hf⟩
theorem aL_e {S : St} {q n i : Nat} {f : Nat → TV} {x : Int64} (h : S.1 q = some (cA 3 n f)) (hi : i < n) (hn : n < 2 ^ 31) (hx : f i = vL x) : aL S (some q) 3 (nI i) = some x := by
  simp only [aL, aV_e h hi hn, Option.bind_some, hx]
  rfl
theorem ab_J5_set {S SL S1 : St} {O : Nat → Option Nat} {a0 : Option Nat} {i : Int32} {r : Unit} (h : h_J5_set S a0 i = some (r, S1)) (A : Abs S SL O) : ∃ SL' O', n_J5_set SL a0 i = some (r, SL') ∧ Abs S1 SL' O' := by
  obtain ⟨⟨q, w⟩, ho, hb1⟩ := Option.bind_eq_some_iff.mp h
  obtain ⟨rfl, hS⟩ := gbsc_s ho
  simp only at hb1
  split at hb1
  case isFalse => cases hb1
  next hi =>
  cases hb1
  obtain ⟨j, hj, rfl⟩ := i64_of hi
  obtain ⟨a, f, u, hq, hu, hOa, ha, hf⟩ := (A.2.2.2 q _ hS).2
  have haq : a ≠ q := fun h => by rw [h, hq] at ha; cases ha
  have hex : n_J5_expandTo SL (some q) 0 = some ((), sup SL q (cO 10 [vR (some a), vI 1, vI 1])) := by
    unfold n_J5_expandTo n_J5_ensureCapacity
    have hln := aLn_e ha (Or.inl (by omega))
    have hself : u = 1 → sup SL q (cO 10 [vR (some a), vI 1, vI 1]) = SL := fun hu => by
      refine Prod.ext (funext fun b => ?_) rfl
      simp only [sup]
      by_cases hb : b = q
      · rw [if_pos hb, hb, hq, hu]
      · rw [if_neg hb]
    have e1 : ((1 : Int32) ≤ nI 1) := by decide
    rcases hu with ⟨rfl, -⟩ | rfl
    · simp [gI, gR, gF, gobj, gcell, hq, asI, asR, gd, grc, gclsOf, bn, hln, e1, pI, pF, gfit]
    · rw [hself rfl]
      simp [gI, gR, gF, gobj, gcell, hq, asI, asR, gd, grc, gclsOf, bn]
  have ha2 : (sup SL q (cO 10 [vR (some a), vI 1, vI 1])).1 a = some (cA 3 1 f) := by rw [sup_ne _ _ haq]; exact ha
  have hal := aL_e (i := 0) ha2 (by omega) (by omega) hf
  have hsl : sL (sup SL q (cO 10 [vR (some a), vI 1, vI 1])) (some a) 0 (w ||| bbit (nI j)) = some (sup (sup SL q (cO 10 [vR (some a), vI 1, vI 1])) a (cA 3 1 (updT f 0 (vL (w ||| bbit (nI j)))))) := sV_e (i := 0) ha2 (by omega) (by omega)
  refine ⟨sup (sup SL q (cO 10 [vR (some a), vI 1, vI 1])) a (cA 3 1 (updT f 0 (vL (w ||| bbit (nI j))))), O, ?_, Abs_bs A hS hOa rfl (by rw [sup_ne _ _ (Ne.symm haq), sup_at]) (Or.inr rfl) (sup_at _ _ _) (by simp only [updT, if_true]) (fun b h1 h2 => by rw [sup_ne _ _ h2, sup_ne _ _ h1])⟩
  have h5 := shr6_e hj
  rw [nI_0] at hal
  unfold n_J5_set n_J5_wordIndex
  rw [if_pos hi.1, h5]
  simp only [rtI_int, bn, id]
  rw [grc_e hq, hex]
  simp only [gd, gclsOf, beq_self_eq_true, if_true]
  rw [gR_e (sup_at _ _ _)]
  simp only [List.getElem?_cons_zero, Option.bind_some, asR]
  rw [hal, Option.bind_some]
  unfold bbit at hsl
  rw [hsl, Option.bind_some, grc_e (by rw [sup_ne _ _ (Ne.symm haq), sup_at]), inv_e]
  rfl
theorem hm_J5_set {S S1 : St} {a0 : Option Nat} {i : Int32} {r : Unit} (h : h_J5_set S a0 i = some (r, S1)) : S.2.1 ≤ S1.2.1 ∧ S.2.2.1 ≤ S1.2.2.1 := by
  obtain ⟨o, h1⟩ := hm_bind h
  split at h1
  · cases h1
    exact ⟨Nat.le_refl _, Nat.le_refl _⟩
  · cases h1
theorem ab_J5_get {S SL S1 : St} {O : Nat → Option Nat} {a0 : Option Nat} {i r : Int32} (h : h_J5_get S a0 i = some (r, S1)) (A : Abs S SL O) : ∃ SL' O', n_J5_get SL a0 i = some (r, SL') ∧ Abs S1 SL' O' := by
  obtain ⟨⟨q, w⟩, ho, hb1⟩ := Option.bind_eq_some_iff.mp h
  obtain ⟨rfl, hS⟩ := gbsc_s ho
  simp only at hb1
  split at hb1
  case isFalse => cases hb1
  next hi =>
  cases hb1
  obtain ⟨j, hj, rfl⟩ := i64_of hi
  obtain ⟨a, f, u, hq, hu, hOa, ha, hf⟩ := (A.2.2.2 q _ hS).2
  have hal := aL_e (i := 0) ha (by omega) (by omega) hf
  have h5 := shr6_e hj
  rw [nI_0] at hal
  refine ⟨SL, O, ?_, A⟩
  unfold n_J5_get n_J5_wordIndex
  rw [if_pos hi.1, h5, inv_e, grc_e hq]
  simp only [rtI_int, bn, id, gd, gclsOf, beq_self_eq_true, if_true]
  rw [gI_e hq]
  simp only [List.getElem?_cons_zero, List.getElem?_cons_succ, Option.bind_some, asI]
  rcases hu with ⟨rfl, rfl⟩ | rfl
  · rw [if_pos (by decide), if_pos (by simp)]
    rfl
  · rw [if_neg (by decide), gR_e hq]
    simp only [List.getElem?_cons_zero, Option.bind_some, asR]
    rw [hal, Option.bind_some]
    unfold bbit
    have := gcmp_0 (w &&& (1 : Int64) <<< ((nI j).toInt64 &&& 63))
    by_cases h8 : w &&& (1 : Int64) <<< ((nI j).toInt64 &&& 63) = 0
    · rw [if_pos (this.mpr h8), if_pos h8]; rfl
    · rw [if_neg (fun h => h8 (this.mp h)), if_neg h8]; rfl
theorem hm_J5_get {S S1 : St} {a0 : Option Nat} {i r : Int32} (h : h_J5_get S a0 i = some (r, S1)) : S.2.1 ≤ S1.2.1 ∧ S.2.2.1 ≤ S1.2.2.1 := by
  obtain ⟨o, h1⟩ := hm_bind h
  split at h1
  · cases h1
    exact ⟨Nat.le_refl _, Nat.le_refl _⟩
  · cases h1
theorem ab_J5_clear {S SL S1 : St} {O : Nat → Option Nat} {a0 : Option Nat} {r : Unit} (h : h_J5_clear S a0 = some (r, S1)) (A : Abs S SL O) : ∃ SL' O', n_J5_clear SL a0 = some (r, SL') ∧ Abs S1 SL' O' := by
  obtain ⟨⟨q, w⟩, ho, hb1⟩ := Option.bind_eq_some_iff.mp h
  obtain ⟨rfl, hS⟩ := gbsc_s ho
  cases hb1
  obtain ⟨a, f, u, hq, hu, hOa, ha, hf⟩ := (A.2.2.2 q _ hS).2
  have haq : a ≠ q := fun h => by rw [h, hq] at ha; cases ha
  have done : ∀ (fu : Nat) (S' : St), 0 < fu → S'.1 q = some (cO 10 [vR (some a), vI 0, vI 1]) → n_J5_clear_b0 fu S' (some q) = some ((), S') := fun fu S' h1 h2 => by
    match fu, h1 with
    | fu + 1, _ =>
      simp only [n_J5_clear_b0]
      rw [gI_e h2]
      rfl
  rcases hu with ⟨rfl, rfl⟩ | rfl
  · refine ⟨SL, O, done FU SL (by decide) hq, Abs_bs A hS hOa rfl hq (Or.inl ⟨rfl, rfl⟩) ha hf (fun _ _ _ => rfl)⟩
  · have ha2 : (sup SL q (cO 10 [vR (some a), vI 0, vI 1])).1 a = some (cA 3 1 f) := by rw [sup_ne _ _ haq]; exact ha
    have hsl : sL (sup SL q (cO 10 [vR (some a), vI 0, vI 1])) (some a) 0 0 = some (sup (sup SL q (cO 10 [vR (some a), vI 0, vI 1])) a (cA 3 1 (updT f 0 (vL 0)))) := sV_e (i := 0) ha2 (by omega) (by omega)
    refine ⟨sup (sup SL q (cO 10 [vR (some a), vI 0, vI 1])) a (cA 3 1 (updT f 0 (vL 0))), O, ?_, Abs_bs A hS hOa rfl (by rw [sup_ne _ _ (Ne.symm haq), sup_at]) (Or.inl ⟨rfl, rfl⟩) (sup_at _ _ _) (by simp only [updT, if_true]) (fun b h1 h2 => by rw [sup_ne _ _ h2, sup_ne _ _ h1])⟩
    have hdn := done 99999 (sup (sup SL q (cO 10 [vR (some a), vI 0, vI 1])) a (cA 3 1 (updT f 0 (vL 0)))) (by decide) (by rw [sup_ne _ _ (Ne.symm haq), sup_at])
    have step : ∀ fu, n_J5_clear_b0 fu (sup (sup SL q (cO 10 [vR (some a), vI 0, vI 1])) a (cA 3 1 (updT f 0 (vL 0)))) (some q) = some ((), (sup (sup SL q (cO 10 [vR (some a), vI 0, vI 1])) a (cA 3 1 (updT f 0 (vL 0))))) → n_J5_clear_b0 (fu + 1) SL (some q) = some ((), (sup (sup SL q (cO 10 [vR (some a), vI 0, vI 1])) a (cA 3 1 (updT f 0 (vL 0))))) := by
     intro fu hdn
     simp only [n_J5_clear_b0]
     rw [gI_e hq, gR_e hq]
     simp only [List.getElem?_cons_zero, List.getElem?_cons_succ, Option.bind_some, asI, asR]
     rw [if_neg (by decide), pI_e hq]
     simp only [List.length_cons, List.length_nil, List.set_cons_succ, List.set_cons_zero]
     rw [if_pos (by decide), Option.bind_some, show (1 : Int32) - 1 = 0 by decide, hsl, Option.bind_some]
     exact hdn
    exact step 99999 hdn
theorem hm_J5_clear {S S1 : St} {a0 : Option Nat} {r : Unit} (h : h_J5_clear S a0 = some (r, S1)) : S.2.1 ≤ S1.2.1 ∧ S.2.2.1 ≤ S1.2.2.1 := by
  obtain ⟨o, h1⟩ := hm_bind h
  cases h1
  exact ⟨Nat.le_refl _, Nat.le_refl _⟩
theorem ab_J5_nextSetBit {S SL S1 : St} {O : Nat → Option Nat} {a0 : Option Nat} {i r : Int32} (h : h_J5_nextSetBit S a0 i = some (r, S1)) (A : Abs S SL O) : ∃ SL' O', n_J5_nextSetBit SL a0 i = some (r, SL') ∧ Abs S1 SL' O' := by
  obtain ⟨⟨q, w⟩, ho, hb1⟩ := Option.bind_eq_some_iff.mp h
  obtain ⟨rfl, hS⟩ := gbsc_s ho
  simp only at hb1
  split at hb1
  case isFalse => cases hb1
  next hi =>
  cases hb1
  obtain ⟨j, hj, rfl⟩ := i64_of hi
  obtain ⟨a, f, u, hq, hu, hOa, ha, hf⟩ := (A.2.2.2 q _ hS).2
  have hal := aL_e (i := 0) ha (by omega) (by omega) hf
  have h5 := shr6_e hj
  rw [nI_0] at hal
  refine ⟨SL, O, ?_, A⟩
  obtain ⟨n, hn, rfl⟩ := wb_of w
  rw [nI_clamp (by omega)]
  unfold n_J5_nextSetBit n_J5_wordIndex
  rw [if_pos hi.1, h5, inv_e, grc_e hq]
  simp only [rtI_int, bn, id, gd, gclsOf, beq_self_eq_true, if_true]
  rw [gI_e hq]
  simp only [List.getElem?_cons_zero, List.getElem?_cons_succ, Option.bind_some, asI]
  have hnsb := nsb_e hn (64 - j) j (by omega)
  rcases hu with ⟨rfl, h0⟩ | rfl
  · rw [if_neg (by decide)]
    rcases hnsb with ⟨k, h1, h2, h3, -⟩ | ⟨-, h2⟩
    · rw [(lN_0 hn).mp h0, Nat.zero_testBit] at h3
      cases h3
    · rw [h2]
  · rw [if_pos (by decide), gR_e hq]
    simp only [List.getElem?_cons_zero, Option.bind_some, asR]
    rw [hal, Option.bind_some]
    obtain ⟨m, hm, e1, e2⟩ := msk_e hn hj
    rw [e1]
    have step : ∀ fu, n_J5_nextSetBit_b63 (fu + 1) SL (some q) 0 (lN m) = some (nsb (lN n) (64 - j) j, SL) := by
     intro fu
     simp only [n_J5_nextSetBit_b63]
     have hz := gcmp_0 (lN m)
     rw [lN_0 hm] at hz
     rcases hnsb with ⟨k, h1, h2, h3, h4, h6⟩ | ⟨h1, h2⟩
     · have hk : m.testBit k = true := by rw [e2 k h2, h3]; simp [h1]
       have hm0 : ¬ m = 0 := fun h => by rw [h, Nat.zero_testBit] at hk; cases hk
       rw [if_neg (fun h => hm0 (hz.mp h)), bn_of (ctz64 SL hm h2 hk fun i hik => ?_), h6]
       · rw [show (0 : Int32) * 64 + nI k = nI k by rw [show (0 : Int32) * 64 = 0 by decide, Int32.zero_add]]
         rfl
       · rw [e2 i (by omega)]
         by_cases hji : j ≤ i
         · rw [h4 i hji hik]; simp
         · simp [hji]
     · have hm0 : m = 0 := by
         refine Nat.eq_of_testBit_eq fun i => ?_
         rw [Nat.zero_testBit]
         by_cases hi64 : i < 64
         · rw [e2 i hi64]
           by_cases hji : j ≤ i
           · rw [h1 i hji hi64]; simp
           · simp [hji]
         · exact Nat.testBit_lt_two_pow (Nat.lt_of_lt_of_le hm (Nat.pow_le_pow_right (by decide) (by omega)))
       rw [if_pos (hz.mpr hm0), gI_e hq, h2]
       rfl
    exact step 99999
theorem hm_J5_nextSetBit {S S1 : St} {a0 : Option Nat} {i r : Int32} (h : h_J5_nextSetBit S a0 i = some (r, S1)) : S.2.1 ≤ S1.2.1 ∧ S.2.2.1 ≤ S1.2.2.1 := by
  obtain ⟨o, h1⟩ := hm_bind h
  split at h1
  · cases h1
    exact ⟨Nat.le_refl _, Nat.le_refl _⟩
  · cases h1
