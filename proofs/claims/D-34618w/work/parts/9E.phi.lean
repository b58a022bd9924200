/-! the potential that pays for drops -/
def nid (s : Sg) (k : Nat) : Bool := (abv (zF s) (zR s) k).isSome || (zE s k).isSome || (zA s).any (fun a => a.1 == k) || (zR s).any (fun r => r.2.1.any fun p => p.2 == k)
/-- nodes below roots; others that are not idle -/
def nM1 (s : Sg) : Nat := cnB (fun k => (abv (zF s) (zR s) k).isSome) (fMd (zF s))
def nM2 (s : Sg) : Nat := cnB (fun k => !(abv (zF s) (zR s) k).isSome && nid s k) (fMd (zF s))
def phQ (a b : Nat) : Nat := 32 * (b * (b + 1)) + 64 * (a * b) + 16 * (a * (a + 1))
def phi (s : Sg) : Nat := phQ (nM1 s) (nM2 s)
section
variable {n m b c x y t i j d : Nat} {f f' : Fl} {rs : List RtV} {en : En} {ac : List AcV} {sg : List SgV} {w w' : Int64} {nm : Nm} {s s' : Sg} {rk : Nat → Nat} {k p : Nat} {e : EnV} {q l : List Nat} {r : RtV} {a : AcV} {left : Int32}
theorem abv_map1 (f : Fl) (rs : List RtV) (k : Nat) : abv f rs k = if fGo f k then none else (rs.map (·.1)).find? fun a => blw f k a := by
  unfold abv
  rw [List.find?_map]
  rfl
theorem abv_eqR {rs' : List RtV} (h : rs'.map (·.1) = rs.map (·.1)) (f : Fl) (k : Nat) : abv f rs' k = abv f rs k := by rw [abv_map1, abv_map1, h]
theorem abv_upd (gf : RtV → RtV) (h : ∀ r, (gf r).1 = r.1) (a : Nat) : abv f (updR rs a gf) k = abv f rs k := abv_eqR (updR_map _ _ h) f k
theorem adA_any {ac : List AcV} {d : Bool} (h : (adA ac n d).any (fun a => a.1 == k) = true) : ac.any (fun a => a.1 == k) = true ∨ k = n := by
  unfold adA at h
  split at h
  · obtain ⟨z, hz, hk⟩ := List.any_eq_true.mp h
    obtain ⟨z0, hz0, rfl⟩ := List.mem_map.mp hz
    split at hk
    · right; simpa using (beq_iff_eq.mp hk).symm
    · left; exact List.any_eq_true.mpr ⟨z0, hz0, hk⟩
  · obtain ⟨z, hz, hk⟩ := List.any_eq_true.mp h
    rcases List.mem_append.mp hz with hz | hz
    · left; exact List.any_eq_true.mpr ⟨z, hz, hk⟩
    · right
      have : z = (n, d, false) := by simpa using hz
      subst this
      simpa using (beq_iff_eq.mp hk).symm
theorem lokA_any : ∀ m, (lokA f n ac m).any (fun a => a.1 == k) = true → ac.any (fun a => a.1 == k) = true ∨ (k < m ∧ fGo f k = false ∧ fPa f k = some n) := by
  intro m
  induction m with
  | zero => intro h; exact Or.inl h
  | succ m ih =>
    intro h
    simp only [lokA] at h
    split at h
    · next hc =>
      rcases adA_any h with z | z
      · rcases ih z with y | ⟨y1, y2⟩
        · exact Or.inl y
        · exact Or.inr ⟨by omega, y2⟩
      · subst z
        simp only [Bool.and_eq_true, Bool.not_eq_true', beq_iff_eq] at hc
        exact Or.inr ⟨by omega, hc⟩
    · rcases ih h with y | ⟨y1, y2⟩
      · exact Or.inl y
      · exact Or.inr ⟨by omega, y2⟩
theorem cw1_any {t : List AcV × Int64 × List Nat} : ∀ m, (cw1 f en d t m).1.any (fun a => a.1 == k) = true → t.1.any (fun a => a.1 == k) = true ∨ (k < m ∧ fGo f k = false ∧ fPa f k = some d) := by
  intro m
  induction m with
  | zero => intro h; exact Or.inl h
  | succ m ih =>
    intro h
    simp only [cw1] at h
    have lift : t.1.any (fun a => a.1 == k) = true ∨ (k < m ∧ fGo f k = false ∧ fPa f k = some d) → t.1.any (fun a => a.1 == k) = true ∨ (k < m + 1 ∧ fGo f k = false ∧ fPa f k = some d) := fun z => z.imp id fun y => ⟨by omega, y.2⟩
    split at h
    · next hc =>
      have h : (if kno f en m = true then (cw1 f en d t m).1 else adA (cw1 f en d t m).1 m false).any (fun a => a.1 == k) = true := h
      split at h
      · exact lift (ih h)
      · rcases adA_any h with z | z
        · exact lift (ih z)
        · subst z
          simp only [Bool.and_eq_true, Bool.not_eq_true', beq_iff_eq] at hc
          exact Or.inr ⟨by omega, hc⟩
    · exact lift (ih h)
theorem cw2_any : ∀ m, (cw2 en w ac m).any (fun a => a.1 == k) = true → ac.any (fun a => a.1 == k) = true ∨ (en k).isSome = true := by
  intro m
  induction m with
  | zero => intro h; exact Or.inl h
  | succ m ih =>
    intro h
    simp only [cw2] at h
    split at h
    · next hc =>
      rcases adA_any h with z | z
      · exact ih z
      · subst z
        rw [Bool.and_eq_true] at hc
        exact Or.inr hc.1
    · exact ih h
theorem abv_child (A : AC f rk) (hk : k < fMd f) (hg : fGo f k = false) (hp : fPa f k = some n) {a : Nat} (ha : a ∈ rs.map (·.1)) (h : n = a ∨ blw f n a = true) : (abv f rs k).isSome = true := by
  rw [abv_map1, hg]
  simp only [Bool.false_eq_true, if_false, List.find?_isSome]
  refine ⟨a, ha, ?_⟩
  rw [blw_eq A hk, hp]
  show (n == a || blw f n a) = true
  rcases h with z | z
  · simp [z]
  · simp [z]
theorem abv_some (h : (abv f rs n).isSome = true) : ∃ a ∈ rs.map (·.1), blw f n a = true := by
  rw [abv_map1] at h
  split at h
  · cases h
  · rw [List.find?_isSome] at h; exact h
theorem nid_iff : nid s k = true ↔ (abv (zF s) (zR s) k).isSome = true ∨ (zE s k).isSome = true ∨ (zA s).any (fun a => a.1 == k) = true ∨ (zR s).any (fun r => r.2.1.any fun p => p.2 == k) = true := by
  simp only [nid, Bool.or_eq_true, or_assoc]
theorem nid_hear (hr : r ∈ zR s) (h : nid (hear s r) k = true) : nid s k = true := by
  rw [nid_iff] at h ⊢
  unfold hear at h
  split at h
  · rcases h with z | z | z | z
    · left
      have e : (abv (zF s) (updR (zR s) r.1 fun r => begR (r.1, r.2.1, false, r.2.2.2)) k).isSome = true := z
      rwa [abv_upd (fun r => begR (r.1, r.2.1, false, r.2.2.2)) (fun _ => rfl)] at e
    · exact Or.inr (Or.inl z)
    · exact Or.inr (Or.inr (Or.inl z))
    · right; right; right
      have z : (updR (zR s) r.1 fun r => begR (r.1, r.2.1, false, r.2.2.2)).any (fun r => r.2.1.any fun p => p.2 == k) = true := z
      obtain ⟨y, hy, hz⟩ := List.any_eq_true.mp z
      obtain ⟨y0, hy0, rfl⟩ := List.mem_map.mp hy
      refine List.any_eq_true.mpr ⟨y0, hy0, ?_⟩
      split at hz <;> exact hz
  · split at h
    · exact h
    · next pr q hq =>
      rcases h with z | z | z | z
      · left
        have e : (abv (zF s) (updR (zR s) r.1 fun r => (r.1, q, r.2.2)) k).isSome = true := z
        rwa [abv_upd (fun r => (r.1, q, r.2.2)) (fun _ => rfl)] at e
      · exact Or.inr (Or.inl z)
      · have z : (adA (zA s) pr.2 (pr.1 == 2)).any (fun a => a.1 == k) = true := z
        rcases adA_any z with y | y
        · exact Or.inr (Or.inr (Or.inl y))
        · right; right; right
          exact List.any_eq_true.mpr ⟨r, hr, List.any_eq_true.mpr ⟨pr, by rw [hq]; exact List.mem_cons_self, by simp [y]⟩⟩
      · right; right; right
        have z : (updR (zR s) r.1 fun r => (r.1, q, r.2.2)).any (fun r => r.2.1.any fun p => p.2 == k) = true := z
        obtain ⟨y, hy, hz⟩ := List.any_eq_true.mp z
        obtain ⟨y0, hy0, rfl⟩ := List.mem_map.mp hy
        split at hz
        · next e =>
          refine List.any_eq_true.mpr ⟨r, hr, ?_⟩
          obtain ⟨p0, hp0, hp1⟩ := List.any_eq_true.mp hz
          exact List.any_eq_true.mpr ⟨p0, by rw [hq]; exact List.mem_cons_of_mem _ hp0, hp1⟩
        · exact List.any_eq_true.mpr ⟨y0, hy0, hz⟩
theorem any_erase {ac : List AcV} {P : AcV → Bool} (h : (ac.eraseIdx i).any P = true) : ac.any P = true := by
  obtain ⟨z, hz, hk⟩ := List.any_eq_true.mp h
  exact List.any_eq_true.mpr ⟨z, List.mem_of_mem_eraseIdx hz, hk⟩
theorem nid_perf (A : AC (zF s) rk) (hk : k < fMd (zF s)) (hm : a ∈ zA s) (h : nid (perf (wA s ((zA s).eraseIdx i)) a) k = true) : nid s k = true := by
  have ha : (zA s).any (fun b => b.1 == a.1) = true := List.any_eq_true.mpr ⟨a, hm, by simp⟩
  rw [nid_iff] at h ⊢
  unfold perf at h
  split at h
  · rcases h with z | z | z | z
    · exact Or.inl z
    · right; left
      have z : (drE (zE s) (drS (zR s) (zE s) a.1) k).isSome = true := z
      unfold drE at z
      split at z
      · cases z
      · exact z
    · right; right; left; exact any_erase z
    · exact Or.inr (Or.inr (Or.inr z))
  · next hab =>
    split at h
    · rcases h with z | z | z | z
      · exact Or.inl z
      · exact Or.inr (Or.inl z)
      · right; right; left
        rcases adA_any (ac := (zA s).eraseIdx i) (n := a.1) (d := false) z with y | y
        · exact any_erase y
        · rw [y]; exact ha
      · exact Or.inr (Or.inr (Or.inr z))
    · split at h
      · rcases h with z | z | z | z
        · exact Or.inl z
        · exact Or.inr (Or.inl z)
        · right; right; left
          have z : ((zA s).eraseIdx i ++ [(a.1, false, true)]).any (fun a => a.1 == k) = true := z
          rw [List.any_append, Bool.or_eq_true] at z
          rcases z with y | y
          · exact any_erase y
          · have : k = a.1 := by
              have y : (a.1 == k || false) = true := y
              rw [Bool.or_false, beq_iff_eq] at y
              exact y.symm
            rw [this]; exact ha
        · exact Or.inr (Or.inr (Or.inr z))
      · have hab' : (abv (zF s) (zR s) a.1).isSome = true := by
          have hab2 : ¬ (abv (zF s) (zR s) a.1).isNone = true := hab
          rw [no_so] at hab2
          cases hq : (abv (zF s) (zR s) a.1).isSome with
          | true => rfl
          | false => rw [hq] at hab2; exact absurd rfl hab2
        rcases h with z | z | z | z
        · exact Or.inl z
        · have z : (fu (zE s) a.1 (some (lokE (zF s) (zN s) (zE s) a.1)) k).isSome = true := z
          by_cases e : k = a.1
          · right; right; left; rw [e]; exact ha
          · rw [fu_n _ _ e] at z; exact Or.inr (Or.inl z)
        · have z : (if fFo (zF s) a.1 = true then lokA (zF s) a.1 ((zA s).eraseIdx i) (fMd (zF s)) else (zA s).eraseIdx i).any (fun a => a.1 == k) = true := z
          split at z
          · rcases lokA_any _ z with y | ⟨y1, y2, y3⟩
            · right; right; left; exact any_erase y
            · left
              obtain ⟨r0, hr0, hb⟩ := abv_some hab'
              exact abv_child A hk y2 y3 hr0 (Or.inr hb)
          · right; right; left; exact any_erase z
        · exact Or.inr (Or.inr (Or.inr z))
theorem nid_crwl (A : AC (zF s) rk) (hk : k < fMd (zF s)) (hr : r ∈ zR s) (h : nid (crwl s r) k = true) : nid s k = true := by
  rw [nid_iff] at h ⊢
  unfold crwl at h
  split at h
  · next d l hc =>
    have acts : (cwZ s r l d).1.any (fun a => a.1 == k) = true → (abv (zF s) (zR s) k).isSome = true ∨ (zE s k).isSome = true ∨ (zA s).any (fun a => a.1 == k) = true ∨ (zR s).any (fun r => r.2.1.any fun p => p.2 == k) = true := by
      intro z
      unfold cwZ at z
      split at z
      · next hc2 =>
        rcases cw1_any _ z with y | ⟨y1, y2, y3⟩
        · exact Or.inr (Or.inr (Or.inl y))
        · left
          rw [Bool.and_eq_true] at hc2
          have h2 := hc2.2
          simp only [hasA, Bool.or_eq_true, beq_iff_eq] at h2
          exact abv_child A hk y2 y3 (List.mem_map.mpr ⟨r, hr, rfl⟩) h2
      · exact Or.inr (Or.inr (Or.inl z))
    have quiet : ∀ (gf : RtV → RtV), (∀ x, (gf x).2.1 = x.2.1) → (updR (zR s) r.1 gf).any (fun r => r.2.1.any fun p => p.2 == k) = true → (zR s).any (fun r => r.2.1.any fun p => p.2 == k) = true := by
      intro gf hgf z
      obtain ⟨y, hy, hz⟩ := List.any_eq_true.mp z
      obtain ⟨y0, hy0, rfl⟩ := List.mem_map.mp hy
      refine List.any_eq_true.mpr ⟨y0, hy0, ?_⟩
      split at hz
      · rw [hgf] at hz; exact hz
      · exact hz
    unfold cwF at h
    split at h
    · rcases h with z | z | z | z
      · left
        have e : (abv (zF s) (updR (zR s) r.1 fun r' => (r'.1, r'.2.1, r'.2.2.1, none, (cwZ s r l d).2.1)) k).isSome = true := z
        rwa [abv_upd (fun r' => (r'.1, r'.2.1, r'.2.2.1, none, (cwZ s r l d).2.1)) (fun _ => rfl)] at e
      · exact Or.inr (Or.inl z)
      · rcases cw2_any _ z with y | y
        · exact acts y
        · exact Or.inr (Or.inl y)
      · exact Or.inr (Or.inr (Or.inr (quiet (fun r' => (r'.1, r'.2.1, r'.2.2.1, none, (cwZ s r l d).2.1)) (fun _ => rfl) z)))
    · rcases h with z | z | z | z
      · left
        have e : (abv (zF s) (updR (zR s) r.1 fun r' => (r'.1, r'.2.1, r'.2.2.1, some (cwZ s r l d).2.2, (cwZ s r l d).2.1)) k).isSome = true := z
        rwa [abv_upd (fun r' => (r'.1, r'.2.1, r'.2.2.1, some (cwZ s r l d).2.2, (cwZ s r l d).2.1)) (fun _ => rfl)] at e
      · exact Or.inr (Or.inl z)
      · exact acts z
      · exact Or.inr (Or.inr (Or.inr (quiet (fun r' => (r'.1, r'.2.1, r'.2.2.1, some (cwZ s r l d).2.2, (cwZ s r l d).2.1)) (fun _ => rfl) z)))
  · exact h
theorem phQ_mono {a b a' b' : Nat} (h1 : a ≤ a') (h2 : b ≤ b') : phQ a b ≤ phQ a' b' := by
  have e1 : b * (b + 1) ≤ b' * (b' + 1) := Nat.mul_le_mul h2 (by omega)
  have e2 : a * b ≤ a' * b' := Nat.mul_le_mul h1 h2
  have e3 : a * (a + 1) ≤ a' * (a' + 1) := Nat.mul_le_mul h1 (by omega)
  unfold phQ
  omega
theorem phQ_dn {a b b' C : Nat} (h : b' + 1 ≤ b) (hC : C ≤ a + b) : phQ a b' + 64 * C ≤ phQ a b := by
  obtain ⟨N, rfl⟩ : ∃ N, b = N + 1 := ⟨b - 1, by omega⟩
  have e1 : b' * (b' + 1) ≤ N * (N + 1) := Nat.mul_le_mul (by omega) (by omega)
  have e2 : a * b' ≤ a * N := Nat.mul_le_mul_left _ (by omega)
  have e3 : (N + 1) * (N + 1 + 1) = N * (N + 1) + 2 * (N + 1) := by
    rw [Nat.mul_comm (N + 1) (N + 1 + 1), Nat.add_mul (N + 1) 1 (N + 1), Nat.add_mul N 1 (N + 1)]
    omega
  have e4 : a * (N + 1) = a * N + a := Nat.mul_succ a N
  unfold phQ
  omega
theorem nM2_le (hF : zF s' = zF s) (hA : ∀ k, (abv (zF s') (zR s') k).isSome = (abv (zF s) (zR s) k).isSome) (h : ∀ k, k < fMd (zF s) → nid s' k = true → nid s k = true) : nM1 s' = nM1 s ∧ nM2 s' ≤ nM2 s := by
  unfold nM1 nM2
  refine ⟨?_, ?_⟩
  · rw [hF]
    rw [hF] at hA
    exact cnB_congr fun k _ => hA k
  · have e : (fun k => !(abv (zF s') (zR s') k).isSome && nid s' k) = fun k => !(abv (zF s) (zR s) k).isSome && nid s' k := by
      funext k; rw [hA k]
    rw [e, hF]
    exact cnB_mono fun k hk hp => by
      rw [Bool.and_eq_true] at hp ⊢
      exact ⟨hp.1, h k hk hp.2⟩
theorem phi_mono (hF : zF s' = zF s) (hA : ∀ k, (abv (zF s') (zR s') k).isSome = (abv (zF s) (zR s) k).isSome) (h : ∀ k, k < fMd (zF s) → nid s' k = true → nid s k = true) : phi s' ≤ phi s := by
  obtain ⟨h1, h2⟩ := nM2_le hF hA h
  unfold phi
  rw [h1]; exact phQ_mono (Nat.le_refl _) h2
theorem phi_drop {C : Nat} (hF : zF s' = zF s) (hA : ∀ k, (abv (zF s') (zR s') k).isSome = (abv (zF s) (zR s) k).isSome) (h : ∀ k, k < fMd (zF s) → nid s' k = true → nid s k = true) (hj : j < fMd (zF s)) (h1 : nid s' j = false) (h2 : nid s j = true) (h0 : (abv (zF s) (zR s) j).isSome = false) (hC : C ≤ nM1 s + nM2 s) : phi s' + 64 * C ≤ phi s := by
  obtain ⟨e1, -⟩ := nM2_le hF hA h
  have hlt : nM2 s' + 1 ≤ nM2 s := by
    unfold nM2
    have e : (fun k => !(abv (zF s') (zR s') k).isSome && nid s' k) = fun k => !(abv (zF s) (zR s) k).isSome && nid s' k := by
      funext k; rw [hA k]
    rw [e, hF]
    exact cnB_lt (fun k hk hp => by
      rw [Bool.and_eq_true] at hp ⊢
      exact ⟨hp.1, h k hk hp.2⟩) hj (by rw [h1]; simp) (by rw [h2, h0]; rfl)
  unfold phi
  rw [e1]; exact phQ_dn hlt hC
theorem cnB_or {p q : Nat → Bool} {m : Nat} : cnB (fun k => p k || q k) m ≤ cnB p m + cnB (fun k => !p k && q k) m := by
  induction m with
  | zero => exact Nat.le_refl _
  | succ m ih =>
    simp only [cnB]
    rcases Bool.eq_false_or_eq_true (p m) with hp | hp <;> rcases Bool.eq_false_or_eq_true (q m) with hq | hq <;> simp [hp, hq] <;> omega
theorem cE_nid (hE : ES (zF s) (zE s)) (h6 : fMd (zF s) ≤ 60) : cE (zE s) ≤ nM1 s + nM2 s := by
  unfold cE nM1 nM2
  rw [cnB_ext (m := fMd (zF s)) (fun k hk => by
    cases he : zE s k with
    | none => rfl
    | some e => have := (hE k e he).1; omega) h6]
  refine Nat.le_trans (cnB_mono (q := fun k => (abv (zF s) (zR s) k).isSome || nid s k) fun k _ h => ?_) cnB_or
  have : nid s k = true := nid_iff.mpr (Or.inr (Or.inl h))
  rw [this]; simp
theorem abv_hear (s : Sg) (r : RtV) (k : Nat) : abv (zF (hear s r)) (zR (hear s r)) k = abv (zF s) (zR s) k := by
  unfold hear
  split
  · exact abv_upd (fun r => begR (r.1, r.2.1, false, r.2.2.2)) (fun _ => rfl) _
  · split
    · rfl
    · next p q _ => exact abv_upd (fun r => (r.1, q, r.2.2)) (fun _ => rfl) _
theorem abv_perf (s : Sg) (a : AcV) (k : Nat) : abv (zF (perf s a)) (zR (perf s a)) k = abv (zF s) (zR s) k := by
  unfold perf
  split
  · rfl
  · split
    · rfl
    · split <;> rfl
theorem abv_crwl (s : Sg) (r : RtV) (k : Nat) : abv (zF (crwl s r)) (zR (crwl s r)) k = abv (zF s) (zR s) k := by
  unfold crwl
  split
  · next d l _ =>
    unfold cwF
    split
    · exact abv_upd (fun r' => (r'.1, r'.2.1, r'.2.2.1, none, (cwZ s r l d).2.1)) (fun _ => rfl) _
    · exact abv_upd (fun r' => (r'.1, r'.2.1, r'.2.2.1, some (cwZ s r l d).2.2, (cwZ s r l d).2.1)) (fun _ => rfl) _
  · rfl
theorem zF_hear (s : Sg) (r : RtV) : zF (hear s r) = zF s := by
  unfold hear
  split
  · rfl
  · split <;> rfl
theorem zF_perf (s : Sg) (a : AcV) : zF (perf s a) = zF s := by
  unfold perf
  split
  · rfl
  · split
    · rfl
    · split <;> rfl
theorem zF_crwl (s : Sg) (r : RtV) : zF (crwl s r) = zF s := by
  unfold crwl
  split
  · unfold cwF
    split <;> rfl
  · rfl
theorem zF_doN (s : Sg) (left : Int32) : zF (doN s left).2 = zF s := by
  unfold doN
  split
  · split
    · rfl
    · exact zF_hear _ _
  · split
    · split
      · rfl
      · rw [zF_perf]
    · split
      · split
        · rfl
        · exact zF_crwl _ _
      · rfl
theorem LU_perf (a : AcV) (hU : LU (zS s)) : LU (zS (perf s a)) := by
  unfold perf
  split
  · exact LU_kil hU _
  · split
    · exact hU
    · split <;> exact hU
theorem LU_doN (hU : LU (zS s)) (left : Int32) : LU (zS (doN s left).2) := by
  unfold doN
  split
  · split
    · exact hU
    · rw [hear_sg]; exact hU
  · split
    · split
      · exact hU
      · exact LU_perf (s := wA s _) _ hU
    · split
      · split
        · exact hU
        · rw [crwl_sg]; exact hU
      · exact hU
theorem phi_doN (hI : IW s rk) (left : Int32) : phi (doN s left).2 + 64 * drpC s left ≤ phi s := by
  obtain ⟨A, h6, hT, hN, hB, hE, hF, hS, hF1, hE0, hW⟩ := hI
  cases htl : tellg (zR s) with
  | some r =>
    have hr := List.mem_of_find?_eq_some htl
    have ed : drpC s left = 0 := by unfold drpC; rw [htl]
    have edo : doN s left = if left < 1 then (0, s) else (1, hear s r) := by unfold doN; rw [htl]
    rw [ed, edo]
    split
    · exact Nat.le_refl _
    · exact phi_mono (zF_hear _ _) (fun k => by rw [abv_hear]) fun k _ h => nid_hear hr h
  | none =>
    cases hnx : (zA s)[nxtA (zA s)]? with
    | some a =>
      have hm := List.mem_of_getElem? hnx
      have hk := hB.2 a hm
      have ed : drpC s left = if left < nI (cosA s a) then 0 else if (abv (zF s) (zR s) a.1).isNone then cE (zE s) else 0 := by unfold drpC; rw [htl, hnx]
      have edo : doN s left = if left < nI (cosA s a) then (0, s) else (nI (cosA s a), perf (wA s ((zA s).eraseIdx (nxtA (zA s)))) a) := by unfold doN; rw [htl, hnx]
      rw [ed, edo]
      by_cases el : left < nI (cosA s a)
      · rw [if_pos el, if_pos el]; exact Nat.le_refl _
      · rw [if_neg el, if_neg el]
        have mono : ∀ k, k < fMd (zF s) → nid (perf (wA s ((zA s).eraseIdx (nxtA (zA s)))) a) k = true → nid s k = true := fun k hk h => nid_perf A hk hm h
        by_cases hab : (abv (zF s) (zR s) a.1).isNone = true
        · rw [if_pos hab]
          refine phi_drop (j := a.1) (zF_perf _ _) (fun k => congrArg Option.isSome (abv_perf _ _ k)) mono hk ?_ (nid_iff.mpr (Or.inr (Or.inr (Or.inl (List.any_eq_true.mpr ⟨a, hm, by simp⟩))))) (by
            have hq := hab
            rw [no_so] at hq
            simpa using hq) (cE_nid hE h6)
          have ep : perf (wA s ((zA s).eraseIdx (nxtA (zA s)))) a = drop (wA s ((zA s).eraseIdx (nxtA (zA s)))) a.1 := by
            unfold perf
            exact if_pos hab
          show nid (perf (wA s ((zA s).eraseIdx (nxtA (zA s)))) a) a.1 = false
          rw [ep]
          cases hb : nid (drop (wA s ((zA s).eraseIdx (nxtA (zA s)))) a.1) a.1 with
          | false => rfl
          | true =>
            exfalso
            rw [nid_iff] at hb
            rcases hb with z | z | z | z
            · have z : (abv (zF s) (zR s) a.1).isSome = true := z
              rw [no_so, z] at hab
              cases hab
            · have z : (drE (zE s) (drS (zR s) (zE s) a.1) a.1).isSome = true := z
              unfold drE at z
              split at z
              · cases z
              · next hd => exact hd (by simp [drS, z])
            · have z : ((zA s).eraseIdx (nxtA (zA s))).any (fun b => b.1 == a.1) = true := z
              obtain ⟨y, hy, e⟩ := List.any_eq_true.mp z
              have e : y.1 = a.1 := by simpa using e
              obtain ⟨i, hi⟩ := List.mem_iff_getElem?.mp hy
              rw [List.getElem?_eraseIdx] at hi
              split at hi
              · next hij => have := hB.inj hi hnx e; omega
              · next hij => have := hB.inj hi hnx e; omega
            · have z : (zR s).any (fun r => r.2.1.any fun p => p.2 == a.1) = true := z
              obtain ⟨r, hr, hz⟩ := List.any_eq_true.mp z
              have hq0 := List.find?_eq_none.mp htl r hr
              have hq : r.2.1 = [] := by
                cases hq : r.2.1 with
                | nil => rfl
                | cons x y => rw [hq] at hq0; simp at hq0
              rw [hq] at hz; cases hz
        · rw [if_neg hab]
          exact phi_mono (zF_perf _ _) (fun k => congrArg Option.isSome (abv_perf _ _ k)) mono
    | none =>
      have ed : drpC s left = 0 := by unfold drpC; rw [htl, hnx]
      rw [ed]
      cases hcr : crwlg (zR s) with
      | some r =>
        have hr := List.mem_of_find?_eq_some hcr
        have edo : doN s left = if left < 1 then (0, s) else (1, crwl s r) := by unfold doN; rw [htl, hnx, hcr]
        rw [edo]
        split
        · exact Nat.le_refl _
        · exact phi_mono (zF_crwl _ _) (fun k => by rw [abv_crwl]) fun k hk h => nid_crwl A hk hr h
      | none =>
        have edo : doN s left = (0, s) := by unfold doN; rw [htl, hnx, hcr]
        rw [edo]
        exact Nat.le_refl _
end
