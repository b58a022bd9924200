/-! the keeper's work: empty segments go; two are joined -/
def hlv (x : SgV) : Bool := x.2.any fun p => !p.2
section
variable {S S' S1 S0 : St} {g g' : GA} {T U : List Nat} {n m a b c x y t i j d : Nat} {f f' : Fl} {rs : List RtV} {en : En} {o : Nat → Option Nat} {ac : List AcV} {sg : List SgV} {w w' : Int64} {nm : Nm} {s : Sg} {rk : Nat → Nat} {k p : Nat} {e : EnV} {q l : List Nat} {r : RtV} {D L id : Nat}
theorem sgO_hlv (sg : List SgV) : sgO (sg.filter hlv) = sgO sg := by
  funext k
  unfold sgO
  rw [List.find?_filter]
  congr 2
  funext x
  cases h : x.2.any fun p => p.1 == k && !p.2 with
  | false => simp
  | true =>
    have : hlv x = true := by
      obtain ⟨p, hp, hq⟩ := List.any_eq_true.mp h
      rw [Bool.and_eq_true] at hq
      exact List.any_eq_true.mpr ⟨p, hp, hq.2⟩
    simp [this]
theorem hlv_len (x : SgV) : ((lvS x).length = 0) = (hlv x = false) := by
  refine propext ⟨fun h => ?_, fun h => ?_⟩
  · have h := List.eq_nil_of_length_eq_zero h
    unfold hlv
    rw [List.any_eq_false]
    intro p hp hq
    have : p ∈ lvS x := List.mem_filter.mpr ⟨hp, hq⟩
    rw [h] at this; cases this
  · have : lvS x = [] := by
      unfold lvS
      rw [List.filter_eq_nil_iff]
      intro p hp hq
      have := List.any_eq_false.mp h p hp
      exact this hq
    rw [this]; rfl
theorem IA.al {xs : List (Option Nat)} {it i : Nat} (h : IA S it a xs i) : isAL S a xs := by
  obtain ⟨md, lr, cap, h1, h2, -⟩ := h
  exact ⟨md, cap, h2⟩
theorem k_gone (h : RK g s S) (h4 : (zS s).length ≤ 4) : ∃ S', n_X1_store_b109 S (some (g.2 1 0)) = n_X1_store_b157 FU S' (some (g.2 1 0)) ∧ KX [0, 24] [] 1 g S g S' ∧ RK g (wS s ((zS s).filter hlv)) S' := by
  obtain ⟨h1, h2, h3, h4', h5, h6, h7, h8⟩ := h
  obtain ⟨s1, s2, s3⟩ := h6
  have F := h8.2.2.2
  obtain ⟨S1, a1, a2, a3⟩ := al_it s1 (by rw [List.length_map]; omega) (ow_lt F s2 (by decide))
  obtain ⟨it, eit⟩ : ∃ it, it = S.2.1 := ⟨_, rfl⟩
  rw [← eit] at a1 a2 a3
  have it0 : (g.1 it).1 = 0 := F it (by omega)
  have x1 : KX [0, 24] [] 1 g S g S1 := KX_ch a3 (by decide) (by rw [it0]; decide)
  have key := lp_st (fun m _ (c : St) => n_X1_store_b119 m c (some (g.2 1 0)) (some it)) (fun c => n_X1_store_b157 FU c (some (g.2 1 0))) (fun p c => KX [0, 24] [] 0 g S1 g c ∧ IA c it (g.2 24 0) ((((zS s).take p).filter hlv ++ (zS s).drop p).map fun x => some (g.2 12 x.1)) (((zS s).take p).filter hlv).length) (fun c => KX [0, 24] [] 0 g S1 g c ∧ IA c it (g.2 24 0) (((zS s).filter hlv).map fun x => some (g.2 12 x.1)) ((zS s).filter hlv).length) (zS s).length ?_ ?_ FU 0 S1 (Nat.zero_le _) (by simp only [FU]; omega) ⟨KX_rf (by decide), by simpa using a2⟩
  · obtain ⟨c, ⟨c1, c2⟩, e⟩ := key
    have xx : KX [0, 24] [] 1 g S g c := KX_n (KX_tr x1 c1) (by omega)
    refine ⟨c, ?_, xx, h1.kx xx, h2.kx xx, h3.kx xx, ?_, h5.kx xx, ⟨c2.al, s2, fun z hz => ?_⟩, h7.kx xx, h8.kx xx (FR_sm F xx.le)⟩
    · simp only [n_X1_store_b109, kn_4 h1, ob_s, s1.cl, gd_t, a1, bn_s]
      exact e
    · show RKe g (zE s) (sgO ((zS s).filter hlv)) c
      rw [sgO_hlv]; exact h4'.kx xx
    · obtain ⟨u1, u2, u3, u4⟩ := s3 z (List.mem_filter.mp hz).1
      exact ⟨(xx.at1 u3 (by decide)).trans u1, u2.fr (xx.at1 u4 (by decide)), u3, u4⟩
  · intro m p c hp ⟨hx, hit⟩
    obtain ⟨z, hz⟩ : ∃ z, (zS s)[p]? = some z := ⟨(zS s)[p], List.getElem?_eq_getElem hp⟩
    have hzm := List.mem_of_getElem? hz
    have hdr : (zS s).drop p = z :: (zS s).drop (p + 1) := by
      rw [List.drop_eq_getElem_cons hp]
      rw [List.getElem?_eq_getElem hp] at hz
      rw [Option.some.inj hz]
    have htk : (zS s).take (p + 1) = (zS s).take p ++ [z] := by rw [List.take_succ, hz]; rfl
    obtain ⟨P, eP⟩ : ∃ P, P = ((zS s).take p).filter hlv := ⟨_, rfl⟩
    rw [← eP, hdr] at hit
    have hget : ((P ++ z :: (zS s).drop (p + 1)).map fun x => some (g.2 12 x.1))[P.length]? = some (some (g.2 12 z.1)) := by
      rw [List.getElem?_map, List.getElem?_append_right (Nat.le_refl _)]
      simp
    obtain ⟨c1, b1, b2, b3⟩ := ia_next hit hget
    have y1 : KX [0, 24] [] 0 g c g c1 := KX_ch b3 (by decide) (by rw [it0]; decide)
    have xx1 := KX_tr x1 (KX_tr hx y1)
    obtain ⟨u1, u2, u3, u4⟩ := s3 z hzm
    have v1 : c1.1 (g.2 12 z.1) = some (sgC g z) := (xx1.at1 u3 (by decide)).trans u1
    have v2 : isAL c1 (g.2 13 z.1) ((lvS z).map fun p => some (g.2 9 p.1)) := u2.fr (xx1.at1 u4 (by decide))
    have hlt : (b2i (decide (P.length < ((P ++ z :: (zS s).drop (p + 1)).map fun x => some (g.2 12 x.1)).length)) : Int32) = 1 := by
      rw [decide_eq_true (by simp)]; rfl
    have q7 : gR c1 (some (g.2 12 z.1)) 7 0 = some (some (g.2 13 z.1)) := by rw [gR_e v1]; rfl
    have e1 : n_X1_store_b119 (m + 1) c (some (g.2 1 0)) (some it) = if hlv z = true then n_X1_store_b119 m c1 (some (g.2 1 0)) (some it) else (gd (grc c1 (some it) 12) <| bn (h_J26_remove c1 (some it)) fun _ S8 => n_X1_store_b119 m S8 (some (g.2 1 0)) (some it)) := by
      simp only [n_X1_store_b119, hit.cl, gd_t, ia_has hit, bn_s, hlt, i10, if_false, b1, gcst_g (grc_o v1), q7, ob_s, v2.cl, al_isEmpty v2, List.length_map, hlv_len]
      cases hlv z with
      | true => simp [b2i]
      | false => simp [b2i]
    rw [e1]
    rcases Bool.eq_false_or_eq_true (hlv z) with bz | bz
    · rw [if_pos bz]
      have ef : ((zS s).take (p + 1)).filter hlv = P ++ [z] := by rw [htk, List.filter_append, ← eP]; simp [bz]
      refine ⟨c1, ⟨KX_tr hx y1, ?_⟩, rfl⟩
      rw [ef]
      have := b2.it
      rw [show P ++ z :: (zS s).drop (p + 1) = P ++ [z] ++ (zS s).drop (p + 1) by simp] at this
      simpa using this
    · rw [if_neg (by rw [bz]; decide)]
      have ef : ((zS s).take (p + 1)).filter hlv = P := by rw [htk, List.filter_append, ← eP]; simp [bz]
      obtain ⟨c2, d1, d2, d3, d4⟩ := ia_remove b2
      have y2 : KX [0, 24] [] 0 g c1 g c2 := ⟨by decide, fun a ha => d3 a (fun z => ha (by rw [z, it0]; decide)) (fun z => ha (by rw [z, s2]; decide)), fun _ _ => rfl, fun _ _ => rfl, by rw [d4]; exact Nat.le_refl _, by rw [d4]; omega, by rw [d4]; omega, by rw [d4]⟩
      refine ⟨c2, ⟨KX_tr (KX_tr hx y1) y2, ?_⟩, by rw [b2.it.cl, gd_t, d1, bn_s]⟩
      rw [ef]
      have e3 : ((P ++ z :: (zS s).drop (p + 1)).map fun x => some (g.2 12 x.1)).eraseIdx P.length = (P ++ (zS s).drop (p + 1)).map fun x => some (g.2 12 x.1) := by
        rw [← map_erI, List.eraseIdx_append_of_length_le (Nat.le_refl _)]
        simp
      rw [e3] at d2
      exact d2
  · intro m c ⟨hx, hit⟩
    rw [List.take_length, List.drop_length, List.append_nil] at hit
    have hlt : (b2i (decide (((zS s).filter hlv).length < (((zS s).filter hlv).map fun x => some (g.2 12 x.1)).length)) : Int32) = 0 := by
      rw [decide_eq_false (by simp)]; rfl
    exact ⟨c, ⟨hx, hit⟩, by simp only [n_X1_store_b119, hit.cl, gd_t, ia_has hit, bn_s, hlt, if_true]⟩
theorem lv_cnt (x : SgV) : (lvS x).length + x.2.countP (fun p => p.2) = x.2.length := by
  unfold lvS
  rw [← List.countP_eq_length_filter]
  have := List.length_eq_countP_add_countP (fun p : Nat × Bool => p.2) (l := x.2)
  simp only [Bool.not_eq_true] at this
  have e : x.2.countP (fun p => !p.2) = x.2.countP fun p => decide (p.2 = false) := by
    congr 1; funext p; cases p.2 <;> rfl
  rw [e]; omega
theorem k_size (h : RKs g sg S) {x : SgV} (hx : x ∈ sg) : n_X9_size S (some (g.2 12 x.1)) = some (nI x.2.length, S) := by
  obtain ⟨u1, u2, u3, u4⟩ := h.2.2 x hx
  have q0 : gR S (some (g.2 12 x.1)) 7 0 = some (some (g.2 13 x.1)) := by rw [gR_e u1]; rfl
  have q1 : gI S (some (g.2 12 x.1)) 7 1 = some (nI (x.2.countP fun p => p.2)) := by rw [gI_e u1]; rfl
  simp only [n_X9_size, q0, ob_s, u2.cl, gd_t, al_size u2, bn_s, q1, List.length_map, rt_i, id, nI_add, lv_cnt]
end
