/-! the keeper's work: what was read is placed -/
/-- the segments of entries, while places are given -/
def pO (en : En) (w : Int64) (id : Nat) (sg : List SgV) (i : Nat) : Nat → Option Nat := fun k => if (rdL w en i).any (fun j => j == k) then some id else sgO sg k
def pD (en : En) (w : Int64) (i : Nat) : Nat → Bool := fun k => (rdL w en i).any fun j => j == k
/-- no bits beyond -/
def WB (w : Int64) : Prop := ∀ k, 60 ≤ k → k < 64 → tb w k = false
section
variable {S S' S1 S0 : St} {g g' : GA} {T U : List Nat} {n m a b c x y t i j d : Nat} {f f' : Fl} {rs : List RtV} {en : En} {o : Nat → Option Nat} {ac : List AcV} {sg : List SgV} {w w' : Int64} {nm : Nm} {s : Sg} {rk : Nat → Nat} {k p : Nat} {e : EnV} {q l : List Nat} {r : RtV} {D L id : Nat}
theorem RKn_un (h : RKn g nm S) : RKn (un40 g) nm S := ⟨h.1, un_at h.2⟩
theorem RKf_un (h : RKf g f S) : RKf (un40 g) f S := ⟨h.1, un_at h.2.1, fun k hk => ⟨(h.2.2 k hk).1, (h.2.2 k hk).2.1, un_at (h.2.2 k hk).2.2.1, un_at (h.2.2 k hk).2.2.2⟩⟩
theorem RKr_un (h : RKr g rs S) : RKr (un40 g) rs S := by
  obtain ⟨r1, r2, r3⟩ := h
  refine ⟨r1, un_at r2, fun r hr => ?_⟩
  obtain ⟨k1, ⟨ts, k2, k3, k4⟩, k5, k6, k7, k8, k9⟩ := r3 r hr
  exact ⟨k1, ⟨ts, k2, k3, fun i t p ht hp => ⟨(k4 i t p ht hp).1, un_k (k4 i t p ht hp).2⟩⟩, fun l hl => ⟨(k5 l hl).1, un_at (k5 l hl).2⟩, k6, un_at k7, un_at k8, un_at k9⟩
theorem RKe_un (h : RKe g en o S) : RKe (un40 g) en o S := ⟨h.1, un_at h.2.1, fun k e he => ⟨(h.2.2 k e he).1, (h.2.2 k e he).2.1, un_at (h.2.2 k e he).2.2.1, un_at (h.2.2 k e he).2.2.2⟩⟩
theorem RKa_un (h : RKa g ac S) : RKa (un40 g) ac S := ⟨h.1, un_at h.2.1, fun z hz => ⟨(h.2.2 z hz).1, un_at (h.2.2 z hz).2⟩⟩
theorem RKs_un (h : RKs g sg S) : RKs (un40 g) sg S := ⟨h.1, un_at h.2.1, fun z hz => ⟨(h.2.2 z hz).1, (h.2.2 z hz).2.1, un_at (h.2.2 z hz).2.2.1, un_at (h.2.2 z hz).2.2.2⟩⟩
theorem RKw_un (h : RKw g w S) : RKw (un40 g) w S := ⟨h.1, un_at h.2⟩
theorem RKc_un (h : RKc g S) : RKc (un40 g) S := ⟨fun i hi => ⟨(h.1 i hi).1, un_k (h.1 i hi).2⟩, h.2.1, h.2.2.1, fun b hb => un_k (h.2.2.2 b hb)⟩
theorem nsb_tb (w : Int64) : ∀ f i, i + f = 64 → (∃ k, i ≤ k ∧ k < 64 ∧ tb w k = true ∧ (∀ j, i ≤ j → j < k → tb w j = false) ∧ nsb w f i = nI k) ∨ ((∀ j, i ≤ j → j < 64 → tb w j = false) ∧ nsb w f i = -1) := by
  intro f
  induction f with
  | zero => intro i hi; exact Or.inr ⟨fun j h1 h2 => by omega, rfl⟩
  | succ f ih =>
    intro i hi
    unfold nsb
    by_cases c : w &&& bbit (nI i) = 0
    · have ct : tb w i = false := by simp [tb, c]
      rw [if_pos c]
      have ext : ∀ j, i ≤ j → (i + 1 ≤ j → tb w j = false) → tb w j = false := fun j h1 h2 => by
        by_cases e : j = i
        · rw [e]; exact ct
        · exact h2 (by omega)
      rcases ih (i + 1) (by omega) with ⟨k, h1, h2, h3, h4, h5⟩ | ⟨h1, h2⟩
      · exact Or.inl ⟨k, by omega, h2, h3, fun j h6 h7 => ext j h6 fun h8 => h4 j h8 h7, h5⟩
      · exact Or.inr ⟨fun j h6 h7 => ext j h6 fun h8 => h1 j h8 h7, h2⟩
    · rw [if_neg c]
      exact Or.inl ⟨i, Nat.le_refl _, by omega, by simp [tb, c], fun j h1 h2 => by omega, rfl⟩
theorem rdL_gap (en : En) (h : ∀ j, i ≤ j → j < k → tb w j = false) (hik : i ≤ k) : rdL w en k = rdL w en i := by
  induction k with
  | zero => have : i = 0 := by omega
            subst this; rfl
  | succ k ih =>
    by_cases e : i = k + 1
    · subst e; rfl
    · simp only [rdL]
      rw [h k (by omega) (by omega)]
      simp only [Bool.false_and, Bool.false_eq_true, if_false]
      exact ih (fun j h1 h2 => h j h1 (by omega)) (by omega)
theorem rdL_lt : ∀ i, ∀ k ∈ rdL w en i, k < i ∧ (en k).isSome = true := by
  intro i
  induction i with
  | zero => intro k hk; cases hk
  | succ i ih =>
    intro k hk
    simp only [rdL] at hk
    split at hk
    · next hc =>
      rcases List.mem_append.mp hk with z | z
      · have := ih k z; exact ⟨by omega, this.2⟩
      · have : k = i := by simpa using z
        subst this
        rw [Bool.and_eq_true] at hc
        exact ⟨by omega, hc.2⟩
    · have := ih k hk; exact ⟨by omega, this.2⟩
theorem pD_no (h : k ≥ i) : pD en w i k = false := by
  unfold pD
  rw [List.any_eq_false]
  intro z hz
  have := rdL_lt i z hz
  simp; omega
theorem rdL_nd : ∀ i, (rdL w en i).Nodup := by
  intro i
  induction i with
  | zero => exact List.nodup_nil
  | succ i ih =>
    simp only [rdL]
    split
    · rw [List.nodup_append]
      refine ⟨ih, by simp, fun x hx y hy => ?_⟩
      simp at hy
      subst hy
      have := (rdL_lt _ x hx).1
      omega
    · exact ih
/-- what holds while places are given -/
def PLI (g : GA) (S0 : St) (en : En) (w : Int64) (sg : List SgV) (id D L i : Nat) (S : St) : Prop := KX [0, 9, 12, 13, 40] [] (alK S L) g S0 g S ∧ alK S L ≤ 10 + 2 * (rdL w en i).length ∧ isAL S L ((rdL w en i).map fun k => some (g.2 9 k)) ∧ S.1 D = some (cO 7 [vR (some L), vI 0]) ∧ RKs g (kilS sg (pD en w i)) S ∧ RKe g en (pO en w id sg i) S
theorem k_placing (hn : RKn g nm S0) (hw : RKw g w S0) (hU : LU sg) (hS : SS f en sg) (hE : ES f en) (h6 : fMd f ≤ 60) (hWB : WB w) (hD : g.1 D = (40, 0)) (hL : g.1 L = (40, 1)) (hid : g.2 12 id = D) : ∀ r i m S, i + r = 64 → r < m → PLI g S0 en w sg id D L i S → ∃ S' m', n_X1_store_b17 m S (some (g.2 1 0)) (some D) (nsb w (64 - i) i) = n_X1_store_b17 (m' + 1) S' (some (g.2 1 0)) (some D) (-1) ∧ PLI g S0 en w sg id D L 64 S' := by
  intro r
  induction r using Nat.strongRecOn with
  | _ r ih =>
    intro i m S hi hm hP
    obtain ⟨m, rfl⟩ : ∃ m', m = m' + 1 := ⟨m - 1, by omega⟩
    rcases nsb_tb w (64 - i) i (by omega) with ⟨k, h1, h2, h3, h4, h5⟩ | ⟨h1, h2⟩
    · have k60 : k < 60 := by
        rcases Nat.lt_or_ge k 60 with z | z
        · exact z
        · rw [hWB k z h2] at h3; cases h3
      have erd := rdL_gap en h4 h1
      obtain ⟨x1, x2, x3, x4, x5, x6⟩ := hP
      rw [← erd] at x2 x3
      have epD : pD en w i = pD en w k := by unfold pD; rw [erd]
      have epO : pO en w id sg i = pO en w id sg k := by unfold pO; rw [erd]
      rw [epD] at x5
      rw [epO] at x6
      have n1 := hn.kx x1
      have w1 : S.1 (g.2 25 0) = some (cBS w) := (x1.at1 hw.2 (by decide)).trans hw.1
      have e0 : ¬ (nI k < (0 : Int32)) := nI_pos (by omega)
      rw [h5]
      -- going on
      have cont : ∀ (S1 : St), PLI g S0 en w sg id D L (k + 1) S1 → ∃ S' m', n_X1_store_b65 (n_X1_store_b17 m) S1 (some (g.2 1 0)) (some D) (nI k) = n_X1_store_b17 (m' + 1) S' (some (g.2 1 0)) (some D) (-1) ∧ PLI g S0 en w sg id D L 64 S' := by
        intro S1 hP1
        obtain ⟨S', m', z1, z2⟩ := ih (64 - (k + 1)) (by omega) (k + 1) m S1 (by omega) (by omega) hP1
        refine ⟨S', m', ?_, z2⟩
        have n2 := hn.kx hP1.1
        have w2 : S1.1 (g.2 25 0) = some (cBS w) := (hP1.1.at1 hw.2 (by decide)).trans hw.1
        simp only [n_X1_store_b65, kn_5 n2, ob_s, isBS_cl w2, gd_t, nI_1, bs_next w2 (show k + 1 < 64 by omega), bn_s]
        exact z1
      simp only [n_X1_store_b17, e0, if_false, kn_2 n1, ob_s, en_get x6 k60]
      cases hek : en k with
      | none =>
        have er : rdL w en (k + 1) = rdL w en k := by simp only [rdL, hek, Option.isSome_none, Bool.and_false, Bool.false_eq_true, if_false]
        simp only [Option.isSome_none, Bool.false_eq_true, if_false, if_true]
        refine cont S ⟨x1, by rw [er]; exact x2, by rw [er]; exact x3, x4, ?_, ?_⟩
        · have : pD en w (k + 1) = pD en w k := by unfold pD; rw [er]
          rw [this]; exact x5
        · have : pO en w id sg (k + 1) = pO en w id sg k := by unfold pO; rw [er]
          rw [this]; exact x6
      | some e =>
        have er : rdL w en (k + 1) = rdL w en k ++ [k] := by
          simp only [rdL, hek, h3, Option.isSome_some, Bool.and_self, if_true]
        obtain ⟨v1, v2, v3, v4⟩ := x6.2.2 k e hek
        have hno : pD en w k k = false := pD_no (Nat.le_refl _)
        have ho : pO en w id sg k k = sgO (kilS sg (pD en w k)) k := by
          rw [sgO_kil, hno]
          unfold pO
          rw [show ((rdL w en k).any fun j => j == k) = false from hno]
          rfl
        rw [ho] at v1
        have hnd : ∀ x ∈ kilS sg (pD en w k), (x.2.map (·.1)).Nodup := fun x hx => by
          obtain ⟨y, hy, rfl⟩ := List.mem_map.mp hx
          simpa [List.map_map, Function.comp_def] using (hS.2 y hy).1
        have hle : ∀ x ∈ kilS sg (pD en w k), x.2.length ≤ 60 := fun x hx => by
          obtain ⟨y, hy, rfl⟩ := List.mem_map.mp hx
          have := nd_len _ _ (hS.2 y hy).1 (fun x hx => by
            obtain ⟨p, hp, rfl⟩ := List.mem_map.mp hx
            exact ((hS.2 y hy).2 p hp).1)
          rw [List.length_map] at this
          simp only [List.length_map]
          omega
        have hadr : ∀ x ∈ kilS sg (pD en w k), ∀ p ∈ lvS x, g.1 (g.2 9 p.1) = (9, p.1) := fun x hx p hp => by
          obtain ⟨y, hy, rfl⟩ := List.mem_map.mp hx
          obtain ⟨p1, p2⟩ := List.mem_filter.mp hp
          obtain ⟨p0, hp0, rfl⟩ := List.mem_map.mp p1
          have p2 : (!(p0.2 || pD en w k p0.1)) = true := p2
          simp only [Bool.not_eq_true', Bool.or_eq_false_iff] at p2
          have h7 := ((hS.2 y hy).2 p0 hp0).2.2 p2.1
          obtain ⟨ev, hev⟩ := Option.isSome_iff_exists.mp h7
          exact (x6.2.2 p0.1 ev hev).2.2.1
        obtain ⟨S1, b1, b2, b3, b4, b5⟩ := k_bury x5 (LU_kil hU _) hnd hadr v1 v3 hle
        have hkil : kilS (kilS sg (pD en w k)) (fun j => j == k) = kilS sg (pD en w (k + 1)) := by
          simp only [kilS, List.map_map]
          refine List.map_congr_left fun x _ => ?_
          refine Prod.ext rfl ?_
          simp only [Function.comp, List.map_map]
          refine List.map_congr_left fun p _ => ?_
          simp only [Function.comp, Bool.or_assoc]
          refine Prod.ext rfl ?_
          show (p.2 || (pD en w k p.1 || p.1 == k)) = (p.2 || pD en w (k + 1) p.1)
          unfold pD
          rw [er, List.any_append]
          simp only [List.any_cons, List.any_nil, Bool.or_false]
          rw [Bool.beq_comm (a := k)]
        rw [hkil] at b5
        have y1 : KX [0, 9, 12, 13, 40] [] 0 g S g S1 := KX_up b2 (by decide) (by decide) (Nat.le_refl _)
        have n2 := hn.kx (KX_tr x1 y1)
        have q22 := x6.2.1
        have xg := en_get x6 k60
        have hget : ∀ (S2 : St), S2.1 (g.2 22 0) = S.1 (g.2 22 0) → aR S2 (some (g.2 22 0)) 5 (nI k) = some (some (g.2 9 k)) := fun S2 h2 => by
          obtain ⟨⟨hh, u1, u2⟩, u3, u4⟩ := x6
          have e0' : ¬ (nI k < 0 ∨ 60 ≤ k) := by rintro (z | z); exact e0 z; omega
          have hk2 : hh k = vR (some (g.2 9 k)) := by rw [u2 k k60, hek]; rfl
          simp only [aR, aV, garr, gcell_e (h2.trans u1), if_true, Option.bind_some, nI_clamp (show k < 2 ^ 31 by omega)]
          rw [if_neg e0']
          simp only [Option.bind_some, hk2, asR]
        have d9 : D ≠ g.2 9 k := fun z => by rw [z, v3] at hD; cases hD
        have l9 : L ≠ g.2 9 k := fun z => by rw [z, v3] at hL; cases hL
        have dl : D ≠ L := fun z => by rw [z, hL] at hD; cases hD
        have l12 : g.2 22 0 ≠ L := fun z => by rw [z, hL] at q22; cases q22
        obtain ⟨S2, e2⟩ : ∃ S2, S2 = sup S1 (g.2 9 k) (enC g k e (some id)) := ⟨_, rfl⟩
        have p2 : pR S1 (some (g.2 9 k)) 5 5 (some D) = some S2 := by
          rw [e2, pR_e (show S1.1 (g.2 9 k) = some (cO 5 [vR (some (g.2 2 k)), vR (some (g.2 2 e.1)), vI e.2.1, vI (nI e.2.2.1), vR (some (g.2 10 k)), vR none]) from b4), if_pos (by simp)]
          simp only [enC, Option.map_some, hid]
          rfl
        have y2 : KX [0, 9, 12, 13, 40] [] 0 g S1 g S2 := by rw [e2]; exact KX_ch1 (Ch_sup _) v3
        have dc2 : S2.1 D = some (cO 7 [vR (some L), vI 0]) := by rw [e2, sup_ne _ _ d9, b2.at1 hD (by decide)]; exact x4
        have l2 : isAL S2 L ((rdL w en k).map fun k => some (g.2 9 k)) := x3.fr (by rw [e2, sup_ne _ _ l9, b2.at1 hL (by decide)])
        have lk2 : alK S2 L = alK S L := alK_fr (by rw [e2, sup_ne _ _ l9, b2.at1 hL (by decide)])
        have g7 : gR S2 (some D) 7 0 = some (some L) := by rw [gR_e dc2]; rfl
        have ll := rdL_len (en := en) (x := w) k
        obtain ⟨S3, r1, r2, r3, r4, r5⟩ := al_addK l2 (x := some (g.2 9 k)) (okst_g (c := 5) (by rw [e2]; exact grc_o (sup_at _ _ _)) (by decide)) (by rw [List.length_map]; omega)
        rw [List.length_map] at r4
        have y3 : KX [0, 9, 12, 13, 40] [] (alK S3 L - alK S2 L) g S2 g S3 := KX_ch1 r5 hL
        have o9 : ∀ a, (g.1 a).1 = 9 → a ≠ g.2 9 k → S3.1 a = S.1 a := fun a ha hb => by
          rw [r5.1 a (fun z => by rw [z, hL] at ha; cases ha), e2, sup_ne _ _ hb, b3 a hb ha]
        have n3 := hn.kx (KX_tr (KX_tr x1 y1) y2)
        have s22 : S1.1 (g.2 22 0) = S.1 (g.2 22 0) := b2.at1 q22 (by decide)
        have s22b : S2.1 (g.2 22 0) = S.1 (g.2 22 0) := by rw [e2, sup_ne _ _ (fun z => by rw [z, v3] at q22; cases q22), s22]
        simp only [Option.isSome_some, if_true, reduceCtorEq, if_false, b1, bn_s, kn_2 n2, ob_s, hget S1 s22, p2, g7, kn_2 n3, hget S2 s22b, l2.cl, gd_t, r1]
        have yy : KX [0, 9, 12, 13, 40] [] (alK S3 L - alK S L) g S g S3 := KX_n (KX_tr (KX_tr y1 y2) y3) (by omega)
        refine cont S3 ⟨KX_n (KX_tr x1 yy) (by omega), ?_, by rw [er, List.map_append]; exact r2, by rw [r5.1 D dl]; exact dc2, ?_, ?_⟩
        · rw [er, List.length_append]
          simp only [List.length_cons, List.length_nil]
          omega
        · have z9 : KX [0, 9, 40] [] (alK S3 L - alK S2 L) g S1 g S3 := by
            have : KX [0, 9, 40] [] 0 g S1 g S2 := by rw [e2]; exact KX_ch1 (Ch_sup _) v3
            exact KX_n (KX_tr this (KX_ch1 r5 hL)) (by omega)
          exact b5.kx z9
        · obtain ⟨⟨hh, u1, u2⟩, u3, u4⟩ := x6
          have bx : bxr S3 = bxr S := bxr_c yy.cs
          refine ⟨⟨hh, (yy.at1 u3 (by decide)).trans u1, u2⟩, u3, fun j ej hej => ?_⟩
          obtain ⟨c1, c2, c3, c4⟩ := u4 j ej hej
          refine ⟨?_, by rw [bx]; exact c2.fr (yy.at1 c4 (by decide)), c3, c4⟩
          by_cases ejk : j = k
          · subst ejk
            rw [hek] at hej
            cases hej
            have : pO en w id sg (j + 1) j = some id := by
              unfold pO
              rw [er, if_pos (by simp)]
            rw [this, r5.1 _ (Ne.symm l9), e2]; exact sup_at _ _ _
          · have : pO en w id sg (k + 1) j = pO en w id sg k j := by
              unfold pO
              rw [er, List.any_append]
              simp [beq_false_of_ne (Ne.symm ejk)]
            rw [this, o9 _ (by rw [c3]) (fun z => by rw [z, v3] at c3; exact ejk (congrArg (·.2) c3).symm)]
            exact c1
    · have erd : rdL w en 64 = rdL w en i := by
        by_cases e : i ≤ 64
        · exact rdL_gap en (fun j h3 h4 => h1 j h3 h4) e
        · omega
      obtain ⟨x1, x2, x3, x4, x5, x6⟩ := hP
      refine ⟨S, m, by rw [h2], x1, by rw [erd]; exact x2, by rw [erd]; exact x3, x4, ?_, ?_⟩
      · have : pD en w 64 = pD en w i := by unfold pD; rw [erd]
        rw [this]; exact x5
      · have : pO en w id sg 64 = pO en w id sg i := by unfold pO; rw [erd]
        rw [this]; exact x6
end
