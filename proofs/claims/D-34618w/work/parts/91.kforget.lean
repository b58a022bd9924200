/-! the keeper's work: an entry is forgotten -/
def fgt (s : Sg) (k : Nat) : Sg := wS (wE s (fu (zE s) k none)) (kilS (zS s) fun j => j == k)
section
variable {S S' S1 : St} {g g' : GA} {T U : List Nat} {n m a b c x y t i : Nat} {f f' : Fl} {rs : List RtV} {en : En} {o : Nat → Option Nat} {ac : List AcV} {sg : List SgV} {w : Int64} {nm : Nm} {s : Sg} {rk : Nat → Nat} {k p : Nat} {e : EnV}
/-- living places are of entries that are known -/
theorem live_own (h : RK g s S) (hS : SS (zF s) (zE s) (zS s)) {x : SgV} (hx : x ∈ zS s) {p : Nat × Bool} (hp : p ∈ lvS x) : g.1 (g.2 9 p.1) = (9, p.1) := by
  obtain ⟨hp1, hp2⟩ := List.mem_filter.mp hp
  have h2 := ((hS.2 x hx).2 p hp1).2.2 (by simpa using hp2)
  cases he : zE s p.1 with
  | none => rw [he] at h2; cases h2
  | some ev => exact (h.2.2.2.1.2.2 p.1 ev he).2.2.1
theorem k_forget (h : RK g s S) (hS : SS (zF s) (zE s) (zS s)) (hU : LU (zS s)) (h6 : fMd (zF s) ≤ 60) (hE : ES (zF s) (zE s)) (he : zE s k = some e) : ∃ S', n_X1_forget S (some (g.2 1 0)) (some (g.2 9 k)) = some ((), S') ∧ KX [0, 9, 12, 13, 22] [] 0 g S g S' ∧ RK g (fgt s k) S' := by
  obtain ⟨h1, h2, h3, h4, h5, h6', h7, h8⟩ := h
  have H : RK g s S := ⟨h1, h2, h3, h4, h5, h6', h7, h8⟩
  obtain ⟨⟨hh, q1, q2⟩, q3, q4⟩ := h4
  have hE4 : RKe g (zE s) (sgO (zS s)) S := ⟨⟨hh, q1, q2⟩, q3, q4⟩
  obtain ⟨w1, w2, w3, w4⟩ := q4 k e he
  have hkm := (hE k e he).1
  have k60 : k < 60 := by omega
  have hk3 : k < 2 ^ 31 := by omega
  obtain ⟨S1, e1⟩ : ∃ S1, S1 = sup S (g.2 22 0) (cA 5 60 (updT hh k (vR none))) := ⟨_, rfl⟩
  have p1 : sR S (some (g.2 22 0)) 5 (nI k) none = some S1 := by
    have e0 : ¬ (nI k < 0 ∨ 60 ≤ k) := by rintro (z | z); exact nI_pos hk3 z; omega
    simp only [sR, okst, if_true, sV, garr, gcell_e q1, Option.bind_some, nI_clamp hk3]
    rw [if_neg e0, e1]
  have x1 : KX [0, 22] [] 0 g S g S1 := by rw [e1]; exact KX_ch1 (Ch_sup _) q3
  obtain ⟨S2, b1, b2, b3, b4, b5⟩ := k_bury (k := k) (e := e) (h6'.kx x1) hU (fun x hx => (hS.2 x hx).1) (fun x hx p hp => live_own H hS hx hp) ((x1.at1 w3 (by decide)).trans w1) w3 (fun x hx => by
    have := nd_len (fMd (zF s)) _ (hS.2 x hx).1 (fun v hv => by
      obtain ⟨p, hp, rfl⟩ := List.mem_map.mp hv
      exact ((hS.2 x hx).2 p hp).1)
    rw [List.length_map] at this
    omega)
  have x12 : KX [0, 9, 12, 13, 22] [] 0 g S g S2 := KX_n (KX_tr (KX_up x1 (by decide) (by decide) (Nat.le_refl _)) (KX_up b2 (by decide) (by decide) (Nat.le_refl _))) (by decide)
  have g50 := en_0 (hE4) he
  refine ⟨S2, ?_, x12, h1.kx x12, h2.kx x12, h3.kx x12, ⟨⟨updT hh k (vR none), ?_, fun j hj => ?_⟩, q3, fun j ej hej => ?_⟩, h5.kx x12, b5, h7.kx x12, h8.kx x12 (FR_sm h8.2.2.2 x12.le)⟩
  · simp only [n_X1_forget, kn_2 h1, ob_s, g50, nd_0 h2 hkm, p1, b1, bn_s]
  · rw [b2.at1 q3 (by decide), e1]; exact sup_at _ _ _
  · show updT hh k (vR none) j = vR (if (fu (zE s) k none j).isSome then some (g.2 9 j) else none)
    unfold updT
    by_cases ej : j = k
    · subst ej; rw [if_pos rfl, fu_s]; rfl
    · rw [if_neg ej, fu_n _ _ ej]; exact q2 j hj
  · have hej : fu (zE s) k none j = some ej := hej
    by_cases ejk : j = k
    · subst ejk; rw [fu_s] at hej; cases hej
    · rw [fu_n _ _ ejk] at hej
      obtain ⟨v1, v2, v3, v4⟩ := q4 j ej hej
      have so : sgO (kilS (zS s) fun j => j == k) j = sgO (zS s) j := by rw [sgO_kil]; simp [ejk]
      refine ⟨?_, ?_, v3, v4⟩
      · show S2.1 (g.2 9 j) = some (enC g j ej (sgO (kilS (zS s) fun j => j == k) j))
        rw [so, b3 _ (fun z => by rw [z, w3] at v3; exact ejk (congrArg (·.2) v3).symm) (by rw [v3]), x1.at1 v3 (by decide)]
        exact v1
      · rw [bxr_c x12.cs]; exact v2.fr (x12.at1 v4 (by decide))
end
