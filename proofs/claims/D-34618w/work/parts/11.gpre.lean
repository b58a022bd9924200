/-! fresh objects of each class; what the throws ask of the tables; what every walk rests on -/
def g_tab (hh : List (Nat × Nat × Nat × Nat)) : List ExceptionTableEntry := hh.map fun h => ⟨h.1, h.2.1, h.2.2.1, h.2.2.2⟩
theorem gx_ofWH {l : Launch} {y : MethodName} {ws ws' : List Cond} {rm : Room} {Pc : Array Value → State → Prop} {Qc : Array Value → State → Outcome → State → Prop} {XC : String → State → State → Prop} {mc ms : Nat} {free : Addr → Prop} {cc : ByteArray} {maxL : Nat} {ret : Option FieldType} {hh : List (Nat × Nat × Nat × Nat)}
    (hy : plainFor y = true) (hw : ws = Cond.codeWith y cc maxL ret hh :: ws')
    (body : ∀ p e s m args below meth c s₁, BodyLoose p l y (headSpec ws rm) cc maxL ret e s m args below meth c s₁ → c.maxLocals = maxL → c.exceptionTable.toList = g_tab hh → Pc args s →
      W p l e (headSpec ws rm).room s m args below meth c s.heap [] 0 0 (vx_MQ below Qc XC args s mc ms free) (entryFrame m args maxL)) : vx_Met l y ws rm Pc Qc XC mc ms free := by
  refine MetFree.of_bodySF (code := cc) (maxLocals := maxL) (ret := ret) hy ?_ ?_
  · intro args s m h hn
    obtain ⟨m9, meth, c, hn9, h1, h2, h3, h4, -, h5, h6, -⟩ := Cond.codeWith_spec (atoms_spec (ws := ws) h _ (by rw [hw]; exact List.mem_cons_self))
    cases hn.symm.trans hn9
    exact ⟨meth, c, h1, h2, h3, h4, h5, h6⟩
  · intro p e s m args below meth c s₁ B hml hP _
    have hh0 : s₁.heap = s.heap := by rw [B.state]; rfl
    have ht : c.exceptionTable.toList = g_tab hh := by
      obtain ⟨m9, meth9, c9, hn9, h1, h2, -, -, h7, -⟩ := Cond.codeWith_spec (atoms_spec (ws := ws) B.pre _ (by rw [hw]; exact List.mem_cons_self))
      cases B.named.symm.trans hn9
      cases Option.some.inj (h1.symm.trans B.method)
      cases Option.some.inj (h2.symm.trans (Stand.of_body B).code)
      rw [← h7, g_tab, List.map_map]
      exact (List.map_id _).symm
    obtain ⟨t, a1, o, b1, b2, b3⟩ := body p e s m args below meth c s₁ B hml ht hP s₁ hh0 (Stand.of_body B)
    exact ⟨t, o, a1, b1, b2, b3⟩
theorem MSW_of {Γ : GG} {HI : St → Heap → Prop} {l : Launch} {y : MethodName} {b : ByteArray} {mL rk : Nat} {rt : Option FieldType} {S : St} {args : List TV} {res : Option TV ⊕ String} {S' : St} {own : String} {hh : List (Nat × Nat × Nat × Nat)} (hl : l.stackTraces = false) (hx : HIx Γ HI) (hpl : plainFor y = true) (hown : y.cls = own) (hle : gsm args ≤ mL)
    (body : ∀ K : KT, kΓ K = Γ → kHI K = HI → kl K = l → kS0 K = S → (kLv K → (kme K).name = y.name) → GC K own b mL rk (g_tab hh) → GQ K rt res S' → G K mL S 0 (gl_args 0 args) []) : MSW Γ HI l y b mL rt hh rk S args res S' := by
  have hmono : Nonempty KT → S.2.1 ≤ S'.2.1 ∧ S.2.2.1 ≤ S'.2.2.1 := by
    rintro ⟨K0⟩
    exact (body (Γ, HI, kp K0, l, ke K0, kR K0, ks K0, km K0, ka K0, kb K0, kme K0, kc K0, kQ K0, S, S', False) rfl rfl rfl rfl (fun h => h.elim) (fun h => h.elim) ⟨rfl, fun h => h.elim⟩).1
  refine ⟨hmono, gx_ofWH (cc := b) (maxL := mL) (ret := rt) (hh := hh) hpl rfl ?_⟩
  intro p e s m a below meth c s₁ B hml hex hP
  obtain ⟨rfl, h1, hk⟩ := hP
  have hts := atoms_spec (ws := wsW_ y b mL rt hh) B.pre
  have hts : ∀ w ∈ lw_all, w.before _ s = true := fun w h => hts w (List.mem_cons_of_mem _ h)
  have hm9 := hmono
  have hb := body (Γ, HI, p, l, e, MRm rk S S', s, m, (args.map tv).toArray, below, meth, c, vx_MQ below (RQ HI res S') (RX HI res S') (args.map tv).toArray s (S'.2.1 - S.2.1) (S'.2.2.1 - S.2.2.1) (gA Γ), S, S', True) rfl rfl rfl rfl (fun _ => (name_of_methodNamed B.named B.method).1)
    (fun _ => ⟨B.exec, B.bytes, hml, by rw [← hown]; exact findClass_of_methodNamed B.named, hts, hk, B.notSynchronized, hx, rfl, rfl, by show S'.2.1 ≤ S.2.1 + (S'.2.1 - S.2.1); omega, by show S'.2.2.1 ≤ S.2.2.1 + (S'.2.2.1 - S.2.2.1); omega, hl, h1, hex⟩) ⟨rfl, fun _ => ⟨rfl, B.returns⟩⟩
  rw [lg_entry_eq]
  have hmo := hb.1
  refine hb.2 trivial s.heap [] 0 0 _ h1 (fun z hz => nomatch hz) (Nat.zero_add _) (Nat.zero_add _) ?_
  rw [gl_args_map]
  exact lv_entry (args.map tv) (by rw [gsm_len]; exact hle)
def EL (Γ : GG) (HI : St → Heap → Prop) (l : Launch) : Prop := HIx Γ HI ∧ l.stackTraces = false
theorem EL.hx {Γ : GG} {HI : St → Heap → Prop} {l : Launch} (E : EL Γ HI l) : HIx Γ HI := E.1
theorem EL.ntr {Γ : GG} {HI : St → Heap → Prop} {l : Launch} (E : EL Γ HI l) : l.stackTraces = false := E.2
theorem gdf_X1 : ∀ j, j < 12 → defaultValue (tyX1 j) = vp_V (([vR none, vR none, vR none, vR none, vR none, vR none, vI 0, vI 0, vI 0, vI 0, vI 0, vI 0] : List TV).map tv) j := fun j hj => by
  match j, hj with
  | 0, _ => rfl
  | 1, _ => rfl
  | 2, _ => rfl
  | 3, _ => rfl
  | 4, _ => rfl
  | 5, _ => rfl
  | 6, _ => rfl
  | 7, _ => rfl
  | 8, _ => rfl
  | 9, _ => rfl
  | 10, _ => rfl
  | 11, _ => rfl
  | k + 12, hj => omega
theorem gdf_X2 : ∀ j, j < 9 → defaultValue (tyX2 j) = vp_V (([vI 0, vI 0, vR none, vI 0, vI 0, vR none, vI 0, vI 0, vI 0] : List TV).map tv) j := fun j hj => by
  match j, hj with
  | 0, _ => rfl
  | 1, _ => rfl
  | 2, _ => rfl
  | 3, _ => rfl
  | 4, _ => rfl
  | 5, _ => rfl
  | 6, _ => rfl
  | 7, _ => rfl
  | 8, _ => rfl
  | k + 9, hj => omega
theorem gdf_X4 : ∀ j, j < 2 → defaultValue (tyX4 j) = vp_V (([vR none, vR none] : List TV).map tv) j := fun j hj => by
  match j, hj with
  | 0, _ => rfl
  | 1, _ => rfl
  | k + 2, hj => omega
theorem gdf_X5 : ∀ j, j < 3 → defaultValue (tyX5 j) = vp_V (([vR none, vI 0, vI 0] : List TV).map tv) j := fun j hj => by
  match j, hj with
  | 0, _ => rfl
  | 1, _ => rfl
  | 2, _ => rfl
  | k + 3, hj => omega
theorem gdf_X6 : ∀ j, j < 5 → defaultValue (tyX6 j) = vp_V (([vR none, vR none, vI 0, vR none, vR none] : List TV).map tv) j := fun j hj => by
  match j, hj with
  | 0, _ => rfl
  | 1, _ => rfl
  | 2, _ => rfl
  | 3, _ => rfl
  | 4, _ => rfl
  | k + 5, hj => omega
theorem gdf_X7 : ∀ j, j < 6 → defaultValue (tyX7 j) = vp_V (([vR none, vR none, vI 0, vI 0, vR none, vR none] : List TV).map tv) j := fun j hj => by
  match j, hj with
  | 0, _ => rfl
  | 1, _ => rfl
  | 2, _ => rfl
  | 3, _ => rfl
  | 4, _ => rfl
  | 5, _ => rfl
  | k + 6, hj => omega
theorem gdf_X8 : ∀ j, j < 5 → defaultValue (tyX8 j) = vp_V (([vR none, vI 0, vI 0, vR none, vI 0] : List TV).map tv) j := fun j hj => by
  match j, hj with
  | 0, _ => rfl
  | 1, _ => rfl
  | 2, _ => rfl
  | 3, _ => rfl
  | 4, _ => rfl
  | k + 5, hj => omega
theorem gdf_X9 : ∀ j, j < 2 → defaultValue (tyX9 j) = vp_V (([vR none, vI 0] : List TV).map tv) j := fun j hj => by
  match j, hj with
  | 0, _ => rfl
  | 1, _ => rfl
  | k + 2, hj => omega
theorem gdf_J2 : ∀ j, j < 3 → defaultValue (tyJ2 j) = vp_V (([vI 0, vR none, vI 0] : List TV).map tv) j := fun j hj => by
  match j, hj with
  | 0, _ => rfl
  | 1, _ => rfl
  | 2, _ => rfl
  | k + 3, hj => omega
theorem gdf_J4 : ∀ j, j < 4 → defaultValue (tyJ4 j) = vp_V (([vI 0, vI 0, vR none, vR none] : List TV).map tv) j := fun j hj => by
  match j, hj with
  | 0, _ => rfl
  | 1, _ => rfl
  | 2, _ => rfl
  | 3, _ => rfl
  | k + 4, hj => omega
theorem gdf_J5 : ∀ j, j < 3 → defaultValue (tyJ5 j) = vp_V (([vR none, vI 0, vI 0] : List TV).map tv) j := fun j hj => by
  match j, hj with
  | 0, _ => rfl
  | 1, _ => rfl
  | 2, _ => rfl
  | k + 3, hj => omega
theorem gdf_J9 : ∀ j, j < 3 → defaultValue (tyJ9 j) = vp_V (([vR none, vR none, vR none] : List TV).map tv) j := fun j hj => by
  match j, hj with
  | 0, _ => rfl
  | 1, _ => rfl
  | 2, _ => rfl
  | k + 3, hj => omega
theorem gdf_J26 : ∀ j, j < 4 → defaultValue (tyJ26 j) = vp_V (([vI 0, vI 0, vI 0, vR none] : List TV).map tv) j := fun j hj => by
  match j, hj with
  | 0, _ => rfl
  | 1, _ => rfl
  | 2, _ => rfl
  | 3, _ => rfl
  | k + 4, hj => omega
theorem gdf_J29 : ∀ j, j < 5 → defaultValue (tyJ29 j) = vp_V (([vR none, vR none, vI 0, vI 0, vR none] : List TV).map tv) j := fun j hj => by
  match j, hj with
  | 0, _ => rfl
  | 1, _ => rfl
  | 2, _ => rfl
  | 3, _ => rfl
  | 4, _ => rfl
  | k + 5, hj => omega
theorem gdf_J33 : ∀ j, j < 3 → defaultValue (tyJ33 j) = vp_V (([vR none, vI 0, vI 0] : List TV).map tv) j := fun j hj => by
  match j, hj with
  | 0, _ => rfl
  | 1, _ => rfl
  | 2, _ => rfl
  | k + 3, hj => omega
theorem gdf_X3 : ∀ j, j < 46 → defaultValue (tyX3 j) = vp_V (([vI 0, vI 0, vI 0, vR none, vR none, vR none, vR none, vR none, vR none, vR none, vR none, vR none, vI 0, vR none, vR none, vR none, vR none, vR none, vR none, vR none, vR none, vR none, vR none, vR none, vR none, vR none, vR none, vR none, vI 0, vI 0, vI 0, vR none, vR none, vR none, vI 0, vI 0, vI 0, vI 0, vR none, vR none, vR none, vI 0, vR none, vR none, vI 0, vR none] : List TV).map tv) j := fun j hj => by
  match j, hj with
  | 0, _ => rfl
  | 1, _ => rfl
  | 2, _ => rfl
  | 3, _ => rfl
  | 4, _ => rfl
  | 5, _ => rfl
  | 6, _ => rfl
  | 7, _ => rfl
  | 8, _ => rfl
  | 9, _ => rfl
  | 10, _ => rfl
  | 11, _ => rfl
  | 12, _ => rfl
  | 13, _ => rfl
  | 14, _ => rfl
  | 15, _ => rfl
  | 16, _ => rfl
  | 17, _ => rfl
  | 18, _ => rfl
  | 19, _ => rfl
  | 20, _ => rfl
  | 21, _ => rfl
  | 22, _ => rfl
  | 23, _ => rfl
  | 24, _ => rfl
  | 25, _ => rfl
  | 26, _ => rfl
  | 27, _ => rfl
  | 28, _ => rfl
  | 29, _ => rfl
  | 30, _ => rfl
  | 31, _ => rfl
  | 32, _ => rfl
  | 33, _ => rfl
  | 34, _ => rfl
  | 35, _ => rfl
  | 36, _ => rfl
  | 37, _ => rfl
  | 38, _ => rfl
  | 39, _ => rfl
  | 40, _ => rfl
  | 41, _ => rfl
  | 42, _ => rfl
  | 43, _ => rfl
  | 44, _ => rfl
  | 45, _ => rfl
  | k + 46, hj => omega
theorem thw_X1_12 : (∀ w ∈ vx_at0 RX1 12 "java/lang/IndexOutOfBoundsException" ["java/lang/RuntimeException", "java/lang/Exception"], w ∈ lw_all ∨ (w ∈ lw_tbl ∧ g_keep w = true)) ∧ (∀ w ∈ Cond.classLink RX1 10 "java/lang/IndexOutOfBoundsException" :: Cond.initialized "java/lang/IndexOutOfBoundsException" :: vx_at0 RX1 12 "java/lang/IndexOutOfBoundsException" ["java/lang/RuntimeException", "java/lang/Exception"], vx_ot w = true) := ⟨g_words [109, 494, 503, 510, 513, 515, 495, 496, 149, 150, 497, 502, 511, 749, 484, 750, 486, 751, 488, 498, 500, 490, 1138, 1139, 1140, 1141, 475, 1141, 1142, 1143, 1144, 477, 1144, 1145, 1146, 495, 479, 1137, 473, 474, 481, 482, 483, 485, 487, 489, 493, 492, 491] (by decide +kernel) (by decide +kernel), by decide +kernel⟩
theorem thw_X1_3 : (∀ w ∈ vx_at0 RX1 3 "java/lang/IllegalArgumentException" ["java/lang/RuntimeException", "java/lang/Exception"], w ∈ lw_all ∨ (w ∈ lw_tbl ∧ g_keep w = true)) ∧ (∀ w ∈ Cond.classLink RX1 1 "java/lang/IllegalArgumentException" :: Cond.initialized "java/lang/IllegalArgumentException" :: vx_at0 RX1 3 "java/lang/IllegalArgumentException" ["java/lang/RuntimeException", "java/lang/Exception"], vx_ot w = true) := ⟨g_words [109, 494, 503, 510, 513, 515, 495, 496, 149, 150, 497, 502, 511, 749, 484, 750, 486, 751, 488, 498, 500, 490, 1155, 1156, 1157, 1141, 475, 1141, 1142, 1143, 1144, 477, 1144, 1145, 1146, 495, 479, 1154, 721, 722, 723, 506, 724, 725, 726, 727, 493, 492, 728] (by decide +kernel) (by decide +kernel), by decide +kernel⟩
theorem thw_X1_9 : (∀ w ∈ vx_at0 RX1 9 "java/lang/IllegalStateException" ["java/lang/RuntimeException", "java/lang/Exception"], w ∈ lw_all ∨ (w ∈ lw_tbl ∧ g_keep w = true)) ∧ (∀ w ∈ Cond.classLink RX1 7 "java/lang/IllegalStateException" :: Cond.initialized "java/lang/IllegalStateException" :: vx_at0 RX1 9 "java/lang/IllegalStateException" ["java/lang/RuntimeException", "java/lang/Exception"], vx_ot w = true) := ⟨g_words [109, 494, 503, 510, 513, 515, 495, 496, 149, 150, 497, 502, 511, 749, 484, 750, 486, 751, 488, 498, 500, 490, 1175, 1176, 1177, 1141, 475, 1141, 1142, 1143, 1144, 477, 1144, 1145, 1146, 495, 479, 1174, 1166, 1167, 1168, 507, 1169, 1170, 1171, 1172, 493, 492, 1173] (by decide +kernel) (by decide +kernel), by decide +kernel⟩
