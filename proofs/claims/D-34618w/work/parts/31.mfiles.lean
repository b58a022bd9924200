/-! the reference: init, thrown, make, write, empty, move, remove, lock, people, mayRead, nodes -/
def n_X3_init (S : St) (x0 : Option Nat) : Option (Unit × St) :=
  gd (x0).isSome <|
  naB S 1 (60 : Int32) fun q1 S2 =>
  (pR S2 x0 15 3 q1).bind fun S3 =>
  naB S3 1 (60 : Int32) fun q4 S5 =>
  (pR S5 x0 15 4 q4).bind fun S6 =>
  naB S6 0 (60 : Int32) fun q7 S8 =>
  (pR S8 x0 15 5 q7).bind fun S9 =>
  naB S9 2 (60 : Int32) fun q10 S11 =>
  (pR S11 x0 15 6 q10).bind fun S12 =>
  naB S12 0 (60 : Int32) fun q13 S14 =>
  (pR S14 x0 15 7 q13).bind fun S15 =>
  naB S15 0 (60 : Int32) fun q16 S17 =>
  (pR S17 x0 15 8 q16).bind fun S18 =>
  naB S18 0 (1200 : Int32) fun q19 S20 =>
  (pR S20 x0 15 9 q19).bind fun S21 =>
  naB S21 1 (60 : Int32) fun q22 S23 =>
  (pR S23 x0 15 10 q22).bind fun S24 =>
  naB S24 0 (60 : Int32) fun q25 S26 =>
  (pR S26 x0 15 11 q25).bind fun S27 =>
  naB S27 0 (4 : Int32) fun q28 S29 =>
  (pR S29 x0 15 13 q28).bind fun S30 =>
  naB S30 0 (4 : Int32) fun q31 S32 =>
  (pR S32 x0 15 14 q31).bind fun S33 =>
  naB S33 0 (32 : Int32) fun q34 S35 =>
  (pR S35 x0 15 15 q34).bind fun S36 =>
  naB S36 0 (32 : Int32) fun q37 S38 =>
  (pR S38 x0 15 16 q37).bind fun S39 =>
  naB S39 1 (4 : Int32) fun q40 S41 =>
  (pR S41 x0 15 17 q40).bind fun S42 =>
  naB S42 1 (4 : Int32) fun q43 S44 =>
  (pR S44 x0 15 18 q43).bind fun S45 =>
  naB S45 0 (4 : Int32) fun q46 S47 =>
  (pR S47 x0 15 19 q46).bind fun S48 =>
  naB S48 0 (240 : Int32) fun q49 S50 =>
  (pR S50 x0 15 20 q49).bind fun S51 =>
  naB S51 1 (240 : Int32) fun q52 S53 =>
  (pR S53 x0 15 21 q52).bind fun S54 =>
  naB S54 1 (60 : Int32) fun q55 S56 =>
  (pR S56 x0 15 22 q55).bind fun S57 =>
  naB S57 0 (60 : Int32) fun q58 S59 =>
  (pR S59 x0 15 23 q58).bind fun S60 =>
  naB S60 2 (60 : Int32) fun q61 S62 =>
  (pR S62 x0 15 24 q61).bind fun S63 =>
  naB S63 0 (60 : Int32) fun q64 S65 =>
  (pR S65 x0 15 25 q64).bind fun S66 =>
  naB S66 0 (60 : Int32) fun q67 S68 =>
  (pR S68 x0 15 26 q67).bind fun S69 =>
  naB S69 0 (1200 : Int32) fun q70 S71 =>
  (pR S71 x0 15 27 q70).bind fun S72 =>
  (pI .int S72 x0 15 28 (2 : Int32)).bind fun S73 =>
  (pI .int S73 x0 15 29 (12 : Int32)).bind fun S74 =>
  naB S74 0 (60 : Int32) fun q75 S76 =>
  (pR S76 x0 15 31 q75).bind fun S77 =>
  naB S77 0 (60 : Int32) fun q78 S79 =>
  (pR S79 x0 15 32 q78).bind fun S80 =>
  naB S80 1 (60 : Int32) fun q81 S82 =>
  (pR S82 x0 15 33 q81).bind fun S83 =>
  naB S83 0 (600 : Int32) fun q84 S85 =>
  (pR S85 x0 15 38 q84).bind fun S86 =>
  naB S86 0 (600 : Int32) fun q87 S88 =>
  (pR S88 x0 15 39 q87).bind fun S89 =>
  naB S89 1 (600 : Int32) fun q90 S91 =>
  (pR S91 x0 15 40 q90).bind fun S92 =>
  naB S92 1 (60 : Int32) fun q93 S94 =>
  (pR S94 x0 15 42 q93).bind fun S95 =>
  naB S95 1 (60 : Int32) fun q96 S97 =>
  (pR S97 x0 15 43 q96).bind fun S98 =>
  naB S98 0 (20 : Int32) fun q99 S100 =>
  (pR S100 x0 15 45 q99).bind fun S101 =>
  (pI .int S101 x0 15 2 (1 : Int32)).bind fun S102 =>
  (gR S102 x0 15 3).bind fun v103 =>
  (sI S102 v103 1 (0 : Int32) (1 : Int32)).bind fun S104 =>
  (gR S104 x0 15 4).bind fun v105 =>
  (sI S104 v105 1 (0 : Int32) (1 : Int32)).bind fun S106 =>
  (gR S106 x0 15 5).bind fun v107 =>
  (sI S106 v107 0 (0 : Int32) (-1 : Int32)).bind fun S108 =>
  (gR S108 x0 15 11).bind fun v109 =>
  (sI S108 v109 0 (0 : Int32) (15 : Int32)).bind fun S110 =>
  some ((), S110)
theorem w_X3_init_b0m {K : KT} {r : Unit} {S1 : St} (C : GC K RX3 cX3_init 1 2 []) (E : EH (kΓ K) (kHI K) (kl K)) (Q : GQ K none (.inl none) S1) (hnm : kLv K → (kme K).name = "<init>") : ∀ (S : St) (x0 : Option Nat), n_X3_init S x0 = some (r, S1) → G K 1 S 0 [(0, vR x0)] [] := by
  intro S x0 hd
  unfold n_X3_init at hd
  refine g_aload_n C dX3_init_0 rfl 0 rfl ?_
  obtain ⟨hg, hd⟩ := gd_some hd
  refine g_objInit C q1965 q149 q150 (by decide) dX3_init_1 hg (Nat.le_of_ble_eq_true rfl) ?_
  refine g_aload_n C dX3_init_4 rfl 0 rfl ?_
  refine g_bipush (v := 60) C dX3_init_5 (by decide) ?_
  refine g_newa (atype := .boolean) C 1 (by decide) rfl q2105 dX3_init_7 hd (fun q1 S2 hd => ?_)
  obtain ⟨S3, hS3, hd⟩ := Option.bind_eq_some_iff.mp hd
  refine g_putF C gk_X3 (k := 3) (by decide) q1969 rfl rfl hnm rfl dX3_init_9 (fit_ref _ (Or.inr ⟨_, rfl⟩)).1 (fit_ref _ (Or.inr ⟨_, rfl⟩)).2 hS3 ?_
  refine g_aload_n C dX3_init_12 rfl 0 rfl ?_
  refine g_bipush (v := 60) C dX3_init_13 (by decide) ?_
  refine g_newa (atype := .boolean) C 1 (by decide) rfl q2105 dX3_init_15 hd (fun q4 S5 hd => ?_)
  obtain ⟨S6, hS6, hd⟩ := Option.bind_eq_some_iff.mp hd
  refine g_putF C gk_X3 (k := 4) (by decide) q1970 rfl rfl hnm rfl dX3_init_17 (fit_ref _ (Or.inr ⟨_, rfl⟩)).1 (fit_ref _ (Or.inr ⟨_, rfl⟩)).2 hS6 ?_
  refine g_aload_n C dX3_init_20 rfl 0 rfl ?_
  refine g_bipush (v := 60) C dX3_init_21 (by decide) ?_
  refine g_newa (atype := .int) C 0 (by decide) rfl q2106 dX3_init_23 hd (fun q7 S8 hd => ?_)
  obtain ⟨S9, hS9, hd⟩ := Option.bind_eq_some_iff.mp hd
  refine g_putF C gk_X3 (k := 5) (by decide) q1971 rfl rfl hnm rfl dX3_init_25 (fit_ref _ (Or.inr ⟨_, rfl⟩)).1 (fit_ref _ (Or.inr ⟨_, rfl⟩)).2 hS9 ?_
  refine g_aload_n C dX3_init_28 rfl 0 rfl ?_
  refine g_bipush (v := 60) C dX3_init_29 (by decide) ?_
  refine g_newa (atype := .char) C 2 (by decide) rfl q2107 dX3_init_31 hd (fun q10 S11 hd => ?_)
  obtain ⟨S12, hS12, hd⟩ := Option.bind_eq_some_iff.mp hd
  refine g_putF C gk_X3 (k := 6) (by decide) q1972 rfl rfl hnm rfl dX3_init_33 (fit_ref _ (Or.inr ⟨_, rfl⟩)).1 (fit_ref _ (Or.inr ⟨_, rfl⟩)).2 hS12 ?_
  refine g_aload_n C dX3_init_36 rfl 0 rfl ?_
  refine g_bipush (v := 60) C dX3_init_37 (by decide) ?_
  refine g_newa (atype := .int) C 0 (by decide) rfl q2106 dX3_init_39 hd (fun q13 S14 hd => ?_)
  obtain ⟨S15, hS15, hd⟩ := Option.bind_eq_some_iff.mp hd
  refine g_putF C gk_X3 (k := 7) (by decide) q1973 rfl rfl hnm rfl dX3_init_41 (fit_ref _ (Or.inr ⟨_, rfl⟩)).1 (fit_ref _ (Or.inr ⟨_, rfl⟩)).2 hS15 ?_
  refine g_aload_n C dX3_init_44 rfl 0 rfl ?_
  refine g_bipush (v := 60) C dX3_init_45 (by decide) ?_
  refine g_newa (atype := .int) C 0 (by decide) rfl q2106 dX3_init_47 hd (fun q16 S17 hd => ?_)
  obtain ⟨S18, hS18, hd⟩ := Option.bind_eq_some_iff.mp hd
  refine g_putF C gk_X3 (k := 8) (by decide) q1974 rfl rfl hnm rfl dX3_init_49 (fit_ref _ (Or.inr ⟨_, rfl⟩)).1 (fit_ref _ (Or.inr ⟨_, rfl⟩)).2 hS18 ?_
  refine g_aload_n C dX3_init_52 rfl 0 rfl ?_
  refine g_sipush (v := 1200) C dX3_init_53 (by decide) ?_
  refine g_newa (atype := .int) C 0 (by decide) rfl q2106 dX3_init_56 hd (fun q19 S20 hd => ?_)
  obtain ⟨S21, hS21, hd⟩ := Option.bind_eq_some_iff.mp hd
  refine g_putF C gk_X3 (k := 9) (by decide) q1975 rfl rfl hnm rfl dX3_init_58 (fit_ref _ (Or.inr ⟨_, rfl⟩)).1 (fit_ref _ (Or.inr ⟨_, rfl⟩)).2 hS21 ?_
  refine g_aload_n C dX3_init_61 rfl 0 rfl ?_
  refine g_bipush (v := 60) C dX3_init_62 (by decide) ?_
  refine g_newa (atype := .boolean) C 1 (by decide) rfl q2105 dX3_init_64 hd (fun q22 S23 hd => ?_)
  obtain ⟨S24, hS24, hd⟩ := Option.bind_eq_some_iff.mp hd
  refine g_putF C gk_X3 (k := 10) (by decide) q1976 rfl rfl hnm rfl dX3_init_66 (fit_ref _ (Or.inr ⟨_, rfl⟩)).1 (fit_ref _ (Or.inr ⟨_, rfl⟩)).2 hS24 ?_
  refine g_aload_n C dX3_init_69 rfl 0 rfl ?_
  refine g_bipush (v := 60) C dX3_init_70 (by decide) ?_
  refine g_newa (atype := .int) C 0 (by decide) rfl q2106 dX3_init_72 hd (fun q25 S26 hd => ?_)
  obtain ⟨S27, hS27, hd⟩ := Option.bind_eq_some_iff.mp hd
  refine g_putF C gk_X3 (k := 11) (by decide) q1977 rfl rfl hnm rfl dX3_init_74 (fit_ref _ (Or.inr ⟨_, rfl⟩)).1 (fit_ref _ (Or.inr ⟨_, rfl⟩)).2 hS27 ?_
  refine g_aload_n C dX3_init_77 rfl 0 rfl ?_
  refine g_iconst (v := 4) C dX3_init_78 (by decide) ?_
  refine g_newa (atype := .int) C 0 (by decide) rfl q2106 dX3_init_79 hd (fun q28 S29 hd => ?_)
  obtain ⟨S30, hS30, hd⟩ := Option.bind_eq_some_iff.mp hd
  refine g_putF C gk_X3 (k := 13) (by decide) q1979 rfl rfl hnm rfl dX3_init_81 (fit_ref _ (Or.inr ⟨_, rfl⟩)).1 (fit_ref _ (Or.inr ⟨_, rfl⟩)).2 hS30 ?_
  refine g_aload_n C dX3_init_84 rfl 0 rfl ?_
  refine g_iconst (v := 4) C dX3_init_85 (by decide) ?_
  refine g_newa (atype := .int) C 0 (by decide) rfl q2106 dX3_init_86 hd (fun q31 S32 hd => ?_)
  obtain ⟨S33, hS33, hd⟩ := Option.bind_eq_some_iff.mp hd
  refine g_putF C gk_X3 (k := 14) (by decide) q1980 rfl rfl hnm rfl dX3_init_88 (fit_ref _ (Or.inr ⟨_, rfl⟩)).1 (fit_ref _ (Or.inr ⟨_, rfl⟩)).2 hS33 ?_
  refine g_aload_n C dX3_init_91 rfl 0 rfl ?_
  refine g_bipush (v := 32) C dX3_init_92 (by decide) ?_
  refine g_newa (atype := .int) C 0 (by decide) rfl q2106 dX3_init_94 hd (fun q34 S35 hd => ?_)
  obtain ⟨S36, hS36, hd⟩ := Option.bind_eq_some_iff.mp hd
  refine g_putF C gk_X3 (k := 15) (by decide) q1981 rfl rfl hnm rfl dX3_init_96 (fit_ref _ (Or.inr ⟨_, rfl⟩)).1 (fit_ref _ (Or.inr ⟨_, rfl⟩)).2 hS36 ?_
  refine g_aload_n C dX3_init_99 rfl 0 rfl ?_
  refine g_bipush (v := 32) C dX3_init_100 (by decide) ?_
  refine g_newa (atype := .int) C 0 (by decide) rfl q2106 dX3_init_102 hd (fun q37 S38 hd => ?_)
  obtain ⟨S39, hS39, hd⟩ := Option.bind_eq_some_iff.mp hd
  refine g_putF C gk_X3 (k := 16) (by decide) q1982 rfl rfl hnm rfl dX3_init_104 (fit_ref _ (Or.inr ⟨_, rfl⟩)).1 (fit_ref _ (Or.inr ⟨_, rfl⟩)).2 hS39 ?_
  refine g_aload_n C dX3_init_107 rfl 0 rfl ?_
  refine g_iconst (v := 4) C dX3_init_108 (by decide) ?_
  refine g_newa (atype := .boolean) C 1 (by decide) rfl q2105 dX3_init_109 hd (fun q40 S41 hd => ?_)
  obtain ⟨S42, hS42, hd⟩ := Option.bind_eq_some_iff.mp hd
  refine g_putF C gk_X3 (k := 17) (by decide) q1983 rfl rfl hnm rfl dX3_init_111 (fit_ref _ (Or.inr ⟨_, rfl⟩)).1 (fit_ref _ (Or.inr ⟨_, rfl⟩)).2 hS42 ?_
  refine g_aload_n C dX3_init_114 rfl 0 rfl ?_
  refine g_iconst (v := 4) C dX3_init_115 (by decide) ?_
  refine g_newa (atype := .boolean) C 1 (by decide) rfl q2105 dX3_init_116 hd (fun q43 S44 hd => ?_)
  obtain ⟨S45, hS45, hd⟩ := Option.bind_eq_some_iff.mp hd
  refine g_putF C gk_X3 (k := 18) (by decide) q1984 rfl rfl hnm rfl dX3_init_118 (fit_ref _ (Or.inr ⟨_, rfl⟩)).1 (fit_ref _ (Or.inr ⟨_, rfl⟩)).2 hS45 ?_
  refine g_aload_n C dX3_init_121 rfl 0 rfl ?_
  refine g_iconst (v := 4) C dX3_init_122 (by decide) ?_
  refine g_newa (atype := .int) C 0 (by decide) rfl q2106 dX3_init_123 hd (fun q46 S47 hd => ?_)
  obtain ⟨S48, hS48, hd⟩ := Option.bind_eq_some_iff.mp hd
  refine g_putF C gk_X3 (k := 19) (by decide) q1985 rfl rfl hnm rfl dX3_init_125 (fit_ref _ (Or.inr ⟨_, rfl⟩)).1 (fit_ref _ (Or.inr ⟨_, rfl⟩)).2 hS48 ?_
  refine g_aload_n C dX3_init_128 rfl 0 rfl ?_
  refine g_sipush (v := 240) C dX3_init_129 (by decide) ?_
  refine g_newa (atype := .int) C 0 (by decide) rfl q2106 dX3_init_132 hd (fun q49 S50 hd => ?_)
  obtain ⟨S51, hS51, hd⟩ := Option.bind_eq_some_iff.mp hd
  refine g_putF C gk_X3 (k := 20) (by decide) q1986 rfl rfl hnm rfl dX3_init_134 (fit_ref _ (Or.inr ⟨_, rfl⟩)).1 (fit_ref _ (Or.inr ⟨_, rfl⟩)).2 hS51 ?_
  refine g_aload_n C dX3_init_137 rfl 0 rfl ?_
  refine g_sipush (v := 240) C dX3_init_138 (by decide) ?_
  refine g_newa (atype := .boolean) C 1 (by decide) rfl q2105 dX3_init_141 hd (fun q52 S53 hd => ?_)
  obtain ⟨S54, hS54, hd⟩ := Option.bind_eq_some_iff.mp hd
  refine g_putF C gk_X3 (k := 21) (by decide) q1987 rfl rfl hnm rfl dX3_init_143 (fit_ref _ (Or.inr ⟨_, rfl⟩)).1 (fit_ref _ (Or.inr ⟨_, rfl⟩)).2 hS54 ?_
  refine g_aload_n C dX3_init_146 rfl 0 rfl ?_
  refine g_bipush (v := 60) C dX3_init_147 (by decide) ?_
  refine g_newa (atype := .boolean) C 1 (by decide) rfl q2105 dX3_init_149 hd (fun q55 S56 hd => ?_)
  obtain ⟨S57, hS57, hd⟩ := Option.bind_eq_some_iff.mp hd
  refine g_putF C gk_X3 (k := 22) (by decide) q1988 rfl rfl hnm rfl dX3_init_151 (fit_ref _ (Or.inr ⟨_, rfl⟩)).1 (fit_ref _ (Or.inr ⟨_, rfl⟩)).2 hS57 ?_
  refine g_aload_n C dX3_init_154 rfl 0 rfl ?_
  refine g_bipush (v := 60) C dX3_init_155 (by decide) ?_
  refine g_newa (atype := .int) C 0 (by decide) rfl q2106 dX3_init_157 hd (fun q58 S59 hd => ?_)
  obtain ⟨S60, hS60, hd⟩ := Option.bind_eq_some_iff.mp hd
  refine g_putF C gk_X3 (k := 23) (by decide) q1989 rfl rfl hnm rfl dX3_init_159 (fit_ref _ (Or.inr ⟨_, rfl⟩)).1 (fit_ref _ (Or.inr ⟨_, rfl⟩)).2 hS60 ?_
  refine g_aload_n C dX3_init_162 rfl 0 rfl ?_
  refine g_bipush (v := 60) C dX3_init_163 (by decide) ?_
  refine g_newa (atype := .char) C 2 (by decide) rfl q2107 dX3_init_165 hd (fun q61 S62 hd => ?_)
  obtain ⟨S63, hS63, hd⟩ := Option.bind_eq_some_iff.mp hd
  refine g_putF C gk_X3 (k := 24) (by decide) q1990 rfl rfl hnm rfl dX3_init_167 (fit_ref _ (Or.inr ⟨_, rfl⟩)).1 (fit_ref _ (Or.inr ⟨_, rfl⟩)).2 hS63 ?_
  refine g_aload_n C dX3_init_170 rfl 0 rfl ?_
  refine g_bipush (v := 60) C dX3_init_171 (by decide) ?_
  refine g_newa (atype := .int) C 0 (by decide) rfl q2106 dX3_init_173 hd (fun q64 S65 hd => ?_)
  obtain ⟨S66, hS66, hd⟩ := Option.bind_eq_some_iff.mp hd
  refine g_putF C gk_X3 (k := 25) (by decide) q1991 rfl rfl hnm rfl dX3_init_175 (fit_ref _ (Or.inr ⟨_, rfl⟩)).1 (fit_ref _ (Or.inr ⟨_, rfl⟩)).2 hS66 ?_
  refine g_aload_n C dX3_init_178 rfl 0 rfl ?_
  refine g_bipush (v := 60) C dX3_init_179 (by decide) ?_
  refine g_newa (atype := .int) C 0 (by decide) rfl q2106 dX3_init_181 hd (fun q67 S68 hd => ?_)
  obtain ⟨S69, hS69, hd⟩ := Option.bind_eq_some_iff.mp hd
  refine g_putF C gk_X3 (k := 26) (by decide) q1992 rfl rfl hnm rfl dX3_init_183 (fit_ref _ (Or.inr ⟨_, rfl⟩)).1 (fit_ref _ (Or.inr ⟨_, rfl⟩)).2 hS69 ?_
  refine g_aload_n C dX3_init_186 rfl 0 rfl ?_
  refine g_sipush (v := 1200) C dX3_init_187 (by decide) ?_
  refine g_newa (atype := .int) C 0 (by decide) rfl q2106 dX3_init_190 hd (fun q70 S71 hd => ?_)
  obtain ⟨S72, hS72, hd⟩ := Option.bind_eq_some_iff.mp hd
  refine g_putF C gk_X3 (k := 27) (by decide) q1993 rfl rfl hnm rfl dX3_init_192 (fit_ref _ (Or.inr ⟨_, rfl⟩)).1 (fit_ref _ (Or.inr ⟨_, rfl⟩)).2 hS72 ?_
  refine g_aload_n C dX3_init_195 rfl 0 rfl ?_
  refine g_iconst (v := 2) C dX3_init_196 (by decide) ?_
  obtain ⟨S73, hS73, hd⟩ := Option.bind_eq_some_iff.mp hd
  refine g_put C gk_X3 (k := 28) (by decide) q1994 (Or.inl rfl) rfl dX3_init_197 (gfit_ok (pI_v hS73).1).1 (gfit_ok (pI_v hS73).1).2 (pI_v hS73).2 ?_
  refine g_aload_n C dX3_init_200 rfl 0 rfl ?_
  refine g_bipush (v := 12) C dX3_init_201 (by decide) ?_
  obtain ⟨S74, hS74, hd⟩ := Option.bind_eq_some_iff.mp hd
  refine g_put C gk_X3 (k := 29) (by decide) q1995 (Or.inl rfl) rfl dX3_init_203 (gfit_ok (pI_v hS74).1).1 (gfit_ok (pI_v hS74).1).2 (pI_v hS74).2 ?_
  refine g_aload_n C dX3_init_206 rfl 0 rfl ?_
  refine g_bipush (v := 60) C dX3_init_207 (by decide) ?_
  refine g_newa (atype := .int) C 0 (by decide) rfl q2106 dX3_init_209 hd (fun q75 S76 hd => ?_)
  obtain ⟨S77, hS77, hd⟩ := Option.bind_eq_some_iff.mp hd
  refine g_putF C gk_X3 (k := 31) (by decide) q1997 rfl rfl hnm rfl dX3_init_211 (fit_ref _ (Or.inr ⟨_, rfl⟩)).1 (fit_ref _ (Or.inr ⟨_, rfl⟩)).2 hS77 ?_
  refine g_aload_n C dX3_init_214 rfl 0 rfl ?_
  refine g_bipush (v := 60) C dX3_init_215 (by decide) ?_
  refine g_newa (atype := .int) C 0 (by decide) rfl q2106 dX3_init_217 hd (fun q78 S79 hd => ?_)
  obtain ⟨S80, hS80, hd⟩ := Option.bind_eq_some_iff.mp hd
  refine g_putF C gk_X3 (k := 32) (by decide) q1998 rfl rfl hnm rfl dX3_init_219 (fit_ref _ (Or.inr ⟨_, rfl⟩)).1 (fit_ref _ (Or.inr ⟨_, rfl⟩)).2 hS80 ?_
  refine g_aload_n C dX3_init_222 rfl 0 rfl ?_
  refine g_bipush (v := 60) C dX3_init_223 (by decide) ?_
  refine g_newa (atype := .boolean) C 1 (by decide) rfl q2105 dX3_init_225 hd (fun q81 S82 hd => ?_)
  obtain ⟨S83, hS83, hd⟩ := Option.bind_eq_some_iff.mp hd
  refine g_putF C gk_X3 (k := 33) (by decide) q1999 rfl rfl hnm rfl dX3_init_227 (fit_ref _ (Or.inr ⟨_, rfl⟩)).1 (fit_ref _ (Or.inr ⟨_, rfl⟩)).2 hS83 ?_
  refine g_aload_n C dX3_init_230 rfl 0 rfl ?_
  refine g_sipush (v := 600) C dX3_init_231 (by decide) ?_
  refine g_newa (atype := .int) C 0 (by decide) rfl q2106 dX3_init_234 hd (fun q84 S85 hd => ?_)
  obtain ⟨S86, hS86, hd⟩ := Option.bind_eq_some_iff.mp hd
  refine g_putF C gk_X3 (k := 38) (by decide) q2004 rfl rfl hnm rfl dX3_init_236 (fit_ref _ (Or.inr ⟨_, rfl⟩)).1 (fit_ref _ (Or.inr ⟨_, rfl⟩)).2 hS86 ?_
  refine g_aload_n C dX3_init_239 rfl 0 rfl ?_
  refine g_sipush (v := 600) C dX3_init_240 (by decide) ?_
  refine g_newa (atype := .int) C 0 (by decide) rfl q2106 dX3_init_243 hd (fun q87 S88 hd => ?_)
  obtain ⟨S89, hS89, hd⟩ := Option.bind_eq_some_iff.mp hd
  refine g_putF C gk_X3 (k := 39) (by decide) q2005 rfl rfl hnm rfl dX3_init_245 (fit_ref _ (Or.inr ⟨_, rfl⟩)).1 (fit_ref _ (Or.inr ⟨_, rfl⟩)).2 hS89 ?_
  refine g_aload_n C dX3_init_248 rfl 0 rfl ?_
  refine g_sipush (v := 600) C dX3_init_249 (by decide) ?_
  refine g_newa (atype := .boolean) C 1 (by decide) rfl q2105 dX3_init_252 hd (fun q90 S91 hd => ?_)
  obtain ⟨S92, hS92, hd⟩ := Option.bind_eq_some_iff.mp hd
  refine g_putF C gk_X3 (k := 40) (by decide) q2006 rfl rfl hnm rfl dX3_init_254 (fit_ref _ (Or.inr ⟨_, rfl⟩)).1 (fit_ref _ (Or.inr ⟨_, rfl⟩)).2 hS92 ?_
  refine g_aload_n C dX3_init_257 rfl 0 rfl ?_
  refine g_bipush (v := 60) C dX3_init_258 (by decide) ?_
  refine g_newa (atype := .boolean) C 1 (by decide) rfl q2105 dX3_init_260 hd (fun q93 S94 hd => ?_)
  obtain ⟨S95, hS95, hd⟩ := Option.bind_eq_some_iff.mp hd
  refine g_putF C gk_X3 (k := 42) (by decide) q2008 rfl rfl hnm rfl dX3_init_262 (fit_ref _ (Or.inr ⟨_, rfl⟩)).1 (fit_ref _ (Or.inr ⟨_, rfl⟩)).2 hS95 ?_
  refine g_aload_n C dX3_init_265 rfl 0 rfl ?_
  refine g_bipush (v := 60) C dX3_init_266 (by decide) ?_
  refine g_newa (atype := .boolean) C 1 (by decide) rfl q2105 dX3_init_268 hd (fun q96 S97 hd => ?_)
  obtain ⟨S98, hS98, hd⟩ := Option.bind_eq_some_iff.mp hd
  refine g_putF C gk_X3 (k := 43) (by decide) q2009 rfl rfl hnm rfl dX3_init_270 (fit_ref _ (Or.inr ⟨_, rfl⟩)).1 (fit_ref _ (Or.inr ⟨_, rfl⟩)).2 hS98 ?_
  refine g_aload_n C dX3_init_273 rfl 0 rfl ?_
  refine g_bipush (v := 20) C dX3_init_274 (by decide) ?_
  refine g_newa (atype := .int) C 0 (by decide) rfl q2106 dX3_init_276 hd (fun q99 S100 hd => ?_)
  obtain ⟨S101, hS101, hd⟩ := Option.bind_eq_some_iff.mp hd
  refine g_putF C gk_X3 (k := 45) (by decide) q2011 rfl rfl hnm rfl dX3_init_278 (fit_ref _ (Or.inr ⟨_, rfl⟩)).1 (fit_ref _ (Or.inr ⟨_, rfl⟩)).2 hS101 ?_
  refine g_aload_n C dX3_init_281 rfl 0 rfl ?_
  refine g_iconst (v := 1) C dX3_init_282 (by decide) ?_
  obtain ⟨S102, hS102, hd⟩ := Option.bind_eq_some_iff.mp hd
  refine g_put C gk_X3 (k := 2) (by decide) q1968 (Or.inl rfl) rfl dX3_init_283 (gfit_ok (pI_v hS102).1).1 (gfit_ok (pI_v hS102).1).2 (pI_v hS102).2 ?_
  refine g_aload_n C dX3_init_286 rfl 0 rfl ?_
  obtain ⟨v103, hv103, hd⟩ := Option.bind_eq_some_iff.mp hd
  refine g_fld C gk_X3 (k := 3) (by decide) q1969 (Or.inl rfl) dX3_init_287 (gR_v hv103) ?_
  refine g_iconst (v := 0) C dX3_init_290 (by decide) ?_
  refine g_iconst (v := 1) C dX3_init_291 (by decide) ?_
  obtain ⟨S104, hS104, hd⟩ := Option.bind_eq_some_iff.mp hd
  refine g_zastV C dX3_init_292 hS104 ?_
  refine g_aload_n C dX3_init_293 rfl 0 rfl ?_
  obtain ⟨v105, hv105, hd⟩ := Option.bind_eq_some_iff.mp hd
  refine g_fld C gk_X3 (k := 4) (by decide) q1970 (Or.inl rfl) dX3_init_294 (gR_v hv105) ?_
  refine g_iconst (v := 0) C dX3_init_297 (by decide) ?_
  refine g_iconst (v := 1) C dX3_init_298 (by decide) ?_
  obtain ⟨S106, hS106, hd⟩ := Option.bind_eq_some_iff.mp hd
  refine g_zastV C dX3_init_299 hS106 ?_
  refine g_aload_n C dX3_init_300 rfl 0 rfl ?_
  obtain ⟨v107, hv107, hd⟩ := Option.bind_eq_some_iff.mp hd
  refine g_fld C gk_X3 (k := 5) (by decide) q1971 (Or.inl rfl) dX3_init_301 (gR_v hv107) ?_
  refine g_iconst (v := 0) C dX3_init_304 (by decide) ?_
  refine g_iconst (v := (-1)) C dX3_init_305 (by decide) ?_
  obtain ⟨S108, hS108, hd⟩ := Option.bind_eq_some_iff.mp hd
  refine g_iastV C dX3_init_306 hS108 ?_
  refine g_aload_n C dX3_init_307 rfl 0 rfl ?_
  obtain ⟨v109, hv109, hd⟩ := Option.bind_eq_some_iff.mp hd
  refine g_fld C gk_X3 (k := 11) (by decide) q1977 (Or.inl rfl) dX3_init_308 (gR_v hv109) ?_
  refine g_iconst (v := 0) C dX3_init_311 (by decide) ?_
  refine g_bipush (v := 15) C dX3_init_312 (by decide) ?_
  obtain ⟨S110, hS110, hd⟩ := Option.bind_eq_some_iff.mp hd
  refine g_iastV C dX3_init_314 hS110 ?_
  exact g_vret C Q hd dX3_init_315
theorem m_X3_init {Γ : GG} {HI : St → Heap → Prop} {l : Launch} (E : EH Γ HI l) {S : St} {a0 : Option Nat} {r : Unit} {S1 : St} (h : n_X3_init S a0 = some (r, S1)) : MS Γ HI l yX3_init cX3_init 1 none 2 S [vR a0] (.inl none) S1 := by
  refine MS_of E.ntr E.hx (by decide +kernel) rfl (Nat.le_of_ble_eq_true rfl) fun K e1 e2 e3 e4 hnm C Q => ?_
  subst e1; subst e2; subst e3
  exact w_X3_init_b0m C E Q (by exact hnm) S a0 h

def n_X3_thrown (S : St) (x0 : Option Nat) : Option (Int32 × St) :=
  (gI S x0 15 0).bind fun v1 =>
  rtI id (Jvm.ClassFile.FieldType.int) v1 S
theorem w_X3_thrown_b0m {K : KT} {r : Int32} {S1 : St} (C : GC K RX3 cX3_thrown 1 2 []) (E : EH (kΓ K) (kHI K) (kl K)) (Q : GQ K (some (Jvm.ClassFile.FieldType.int)) (.inl (some (vI r))) S1) : ∀ (S : St) (x0 : Option Nat), n_X3_thrown S x0 = some (r, S1) → G K 1 S 0 [(0, vR x0)] [] := by
  intro S x0 hd
  unfold n_X3_thrown at hd
  refine g_aload_n C dX3_thrown_0 rfl 0 rfl ?_
  obtain ⟨v1, hv1, hd⟩ := Option.bind_eq_some_iff.mp hd
  refine g_fld C gk_X3 (k := 0) (by decide) q1966 (Or.inl rfl) dX3_thrown_1 (gI_v hv1) ?_
  exact g_iret C Q hd dX3_thrown_4
theorem m_X3_thrown {Γ : GG} {HI : St → Heap → Prop} {l : Launch} (E : EH Γ HI l) {S : St} {a0 : Option Nat} {r : Int32} {S1 : St} (h : n_X3_thrown S a0 = some (r, S1)) : MS Γ HI l yX3_thrown cX3_thrown 1 (some (Jvm.ClassFile.FieldType.int)) 2 S [vR a0] (.inl (some (vI r))) S1 := by
  refine MS_of E.ntr E.hx (by decide +kernel) rfl (Nat.le_of_ble_eq_true rfl) fun K e1 e2 e3 e4 hnm C Q => ?_
  subst e1; subst e2; subst e3
  exact w_X3_thrown_b0m C E Q S a0 h

def n_X3_isBelow_b31 (k10 : St → Option Nat → Int32 → Int32 → Int32 → Option (Int32 × St)) (S : St) (x0 : Option Nat) (x2 : Int32) (x4 : Int32) (y0 : Int32) : Option (Int32 × St) :=
  (gR S x0 15 5).bind fun v1 =>
  (aI S v1 0 x4).bind fun v2 =>
  k10 S x0 x2 y0 v2
def n_X3_isBelow_b26 (k10 : St → Option Nat → Int32 → Int32 → Int32 → Option (Int32 × St)) (S : St) (x0 : Option Nat) (x2 : Int32) (x4 : Int32) : Option (Int32 × St) :=
  n_X3_isBelow_b31 k10 S x0 x2 x4 (1 : Int32)
def n_X3_isBelow_b10 : Nat → St → Option Nat → Int32 → Int32 → Int32 → Option (Int32 × St)
  | 0 => fun _ _ _ _ _ => none
  | n + 1 => fun S x0 x2 x3 x4 =>
    if x4 = (-1 : Int32) then
      rtI id (Jvm.ClassFile.FieldType.boolean) x3 S
    else
      if x3 = 0 then
        if x4 = x2 then
          n_X3_isBelow_b26 (n_X3_isBelow_b10 n) S x0 x2 x4
        else
          n_X3_isBelow_b31 (n_X3_isBelow_b10 n) S x0 x2 x4 (0 : Int32)
      else
        n_X3_isBelow_b26 (n_X3_isBelow_b10 n) S x0 x2 x4
def n_X3_isBelow (S : St) (x0 : Option Nat) (x1 : Int32) (x2 : Int32) : Option (Int32 × St) :=
  (gR S x0 15 5).bind fun v1 =>
  (aI S v1 0 x1).bind fun v2 =>
  n_X3_isBelow_b10 FU S x0 x2 (0 : Int32) v2
theorem w_X3_isBelow_b31 {K : KT} {r : Int32} {S1 : St} (C : GC K RX3 cX3_isBelow 5 2 []) (E : EH (kΓ K) (kHI K) (kl K)) (Q : GQ K (some (Jvm.ClassFile.FieldType.boolean)) (.inl (some (vI r))) S1) {k10 : St → Option Nat → Int32 → Int32 → Int32 → Option (Int32 × St)} (h10 : ∀ (S : St) (x0 : Option Nat) (x2 : Int32) (x3 : Int32) (x4 : Int32), k10 S x0 x2 x3 x4 = some (r, S1) → G K 5 S 10 [(0, vR x0), (2, vI x2), (3, vI x3), (4, vI x4)] []) : ∀ (S : St) (x0 : Option Nat) (x2 : Int32) (x4 : Int32) (y0 : Int32), n_X3_isBelow_b31 k10 S x0 x2 x4 y0 = some (r, S1) → G K 5 S 31 [(0, vR x0), (2, vI x2), (4, vI x4)] [vI y0] := by
  intro S x0 x2 x4 y0 hd
  unfold n_X3_isBelow_b31 at hd
  refine g_istore_n (L' := [(3, vI y0), (0, vR x0), (2, vI x2), (4, vI x4)]) C dX3_isBelow_31 rfl (by decide) rfl ?_
  refine g_aload_n C dX3_isBelow_32 rfl 1 rfl ?_
  obtain ⟨v1, hv1, hd⟩ := Option.bind_eq_some_iff.mp hd
  refine g_fld C gk_X3 (k := 5) (by decide) q1971 (Or.inl rfl) dX3_isBelow_33 (gR_v hv1) ?_
  refine g_iload C dX3_isBelow_36 3 rfl ?_
  obtain ⟨v2, hv2, hd⟩ := Option.bind_eq_some_iff.mp hd
  refine g_ialdV C dX3_isBelow_38 hv2 ?_
  refine g_istore (L' := [(4, vI v2), (3, vI y0), (0, vR x0), (2, vI x2)]) C dX3_isBelow_39 (by decide) rfl ?_
  refine g_goto (tgt := 10) C dX3_isBelow_41 (by decide) ?_
  refine g_sub [2, 3, 1, 0] rfl ?_
  exact h10 _ _ _ _ _ hd
theorem w_X3_isBelow_b26 {K : KT} {r : Int32} {S1 : St} (C : GC K RX3 cX3_isBelow 5 2 []) (E : EH (kΓ K) (kHI K) (kl K)) (Q : GQ K (some (Jvm.ClassFile.FieldType.boolean)) (.inl (some (vI r))) S1) {k10 : St → Option Nat → Int32 → Int32 → Int32 → Option (Int32 × St)} (h10 : ∀ (S : St) (x0 : Option Nat) (x2 : Int32) (x3 : Int32) (x4 : Int32), k10 S x0 x2 x3 x4 = some (r, S1) → G K 5 S 10 [(0, vR x0), (2, vI x2), (3, vI x3), (4, vI x4)] []) : ∀ (S : St) (x0 : Option Nat) (x2 : Int32) (x4 : Int32), n_X3_isBelow_b26 k10 S x0 x2 x4 = some (r, S1) → G K 5 S 26 [(0, vR x0), (2, vI x2), (4, vI x4)] [] := by
  intro S x0 x2 x4 hd
  unfold n_X3_isBelow_b26 at hd
  refine g_iconst (v := 1) C dX3_isBelow_26 (by decide) ?_
  refine g_goto (tgt := 31) C dX3_isBelow_27 (by decide) ?_
  refine g_sub [0, 1, 2] rfl ?_
  exact w_X3_isBelow_b31 C E Q h10 _ _ _ _ _ hd
theorem w_X3_isBelow_b10 {K : KT} {r : Int32} {S1 : St} (C : GC K RX3 cX3_isBelow 5 2 []) (E : EH (kΓ K) (kHI K) (kl K)) (Q : GQ K (some (Jvm.ClassFile.FieldType.boolean)) (.inl (some (vI r))) S1) : ∀ (n : Nat) (S : St) (x0 : Option Nat) (x2 : Int32) (x3 : Int32) (x4 : Int32), n_X3_isBelow_b10 n S x0 x2 x3 x4 = some (r, S1) → G K 5 S 10 [(0, vR x0), (2, vI x2), (3, vI x3), (4, vI x4)] [] := by
  intro n
  induction n with
  | zero => intro S x0 x2 x3 x4 hd; cases hd
  | succ n ih =>
    intro S x0 x2 x3 x4 hd
    unfold n_X3_isBelow_b10 at hd
    refine g_iload C dX3_isBelow_10 3 rfl ?_
    refine g_iconst (v := (-1)) C dX3_isBelow_12 (by decide) ?_
    refine g_icmp_eq (tgt := 44) C dX3_isBelow_13 (by decide) hd (fun hd => ?_) (fun hd => ?_)
    · refine g_iload_n C dX3_isBelow_44 rfl 2 rfl ?_
      exact g_iret C Q hd dX3_isBelow_45
    · refine g_iload_n C dX3_isBelow_16 rfl 2 rfl ?_
      refine g_if_ne (tgt := 26) C dX3_isBelow_17 (by decide) hd (fun hd => ?_) (fun hd => ?_)
      · refine g_sub [0, 1, 3] rfl ?_
        exact w_X3_isBelow_b26 C E Q ih _ _ _ _ hd
      · refine g_iload C dX3_isBelow_20 3 rfl ?_
        refine g_iload_n C dX3_isBelow_22 rfl 1 rfl ?_
        refine g_icmp_ne (tgt := 30) C dX3_isBelow_23 (by decide) hd (fun hd => ?_) (fun hd => ?_)
        · refine g_iconst (v := 0) C dX3_isBelow_30 (by decide) ?_
          refine g_sub [0, 1, 3] rfl ?_
          exact w_X3_isBelow_b31 C E Q ih _ _ _ _ _ hd
        · refine g_sub [0, 1, 3] rfl ?_
          exact w_X3_isBelow_b26 C E Q ih _ _ _ _ hd
theorem w_X3_isBelow_b0m {K : KT} {r : Int32} {S1 : St} (C : GC K RX3 cX3_isBelow 5 2 []) (E : EH (kΓ K) (kHI K) (kl K)) (Q : GQ K (some (Jvm.ClassFile.FieldType.boolean)) (.inl (some (vI r))) S1) : ∀ (S : St) (x0 : Option Nat) (x1 : Int32) (x2 : Int32), n_X3_isBelow S x0 x1 x2 = some (r, S1) → G K 5 S 0 [(0, vR x0), (1, vI x1), (2, vI x2)] [] := by
  intro S x0 x1 x2 hd
  unfold n_X3_isBelow at hd
  refine g_iconst (v := 0) C dX3_isBelow_0 (by decide) ?_
  refine g_istore_n (L' := [(3, vI (0 : Int32)), (0, vR x0), (1, vI x1), (2, vI x2)]) C dX3_isBelow_1 rfl (by decide) rfl ?_
  refine g_aload_n C dX3_isBelow_2 rfl 1 rfl ?_
  obtain ⟨v1, hv1, hd⟩ := Option.bind_eq_some_iff.mp hd
  refine g_fld C gk_X3 (k := 5) (by decide) q1971 (Or.inl rfl) dX3_isBelow_3 (gR_v hv1) ?_
  refine g_iload_n C dX3_isBelow_6 rfl 2 rfl ?_
  obtain ⟨v2, hv2, hd⟩ := Option.bind_eq_some_iff.mp hd
  refine g_ialdV C dX3_isBelow_7 hv2 ?_
  refine g_istore (L' := [(4, vI v2), (3, vI (0 : Int32)), (0, vR x0), (1, vI x1), (2, vI x2)]) C dX3_isBelow_8 (by decide) rfl ?_
  refine g_sub [2, 4, 1, 0] rfl ?_
  exact w_X3_isBelow_b10 C E Q FU _ _ _ _ _ hd
theorem m_X3_isBelow {Γ : GG} {HI : St → Heap → Prop} {l : Launch} (E : EH Γ HI l) {S : St} {a0 : Option Nat} {a1 : Int32} {a2 : Int32} {r : Int32} {S1 : St} (h : n_X3_isBelow S a0 a1 a2 = some (r, S1)) : MS Γ HI l yX3_isBelow cX3_isBelow 5 (some (Jvm.ClassFile.FieldType.boolean)) 2 S [vR a0, vI a1, vI a2] (.inl (some (vI r))) S1 := by
  refine MS_of E.ntr E.hx (by decide +kernel) rfl (Nat.le_of_ble_eq_true rfl) fun K e1 e2 e3 e4 hnm C Q => ?_
  subst e1; subst e2; subst e3
  exact w_X3_isBelow_b0m C E Q S a0 a1 a2 h

def n_X3_over_b40 (k4 : St → Option Nat → Int32 → Int32 → Int32 → Option (Int32 × St)) (S : St) (x0 : Option Nat) (x1 : Int32) (x3 : Int32) (y0 : Int32) : Option (Int32 × St) :=
  k4 S x0 x1 y0 (x3 + 1)
def n_X3_over_b4 : Nat → St → Option Nat → Int32 → Int32 → Int32 → Option (Int32 × St)
  | 0 => fun _ _ _ _ _ => none
  | n + 1 => fun S x0 x1 x2 x3 =>
    (gI S x0 15 12).bind fun v1 =>
    if v1 ≤ x3 then
      rtI id (Jvm.ClassFile.FieldType.int) x2 S
    else
      (gR S x0 15 3).bind fun v2 =>
      (aI S v2 1 x1).bind fun v3 =>
      if v3 = 0 then
        rtI id (Jvm.ClassFile.FieldType.int) x2 S
      else
        (gR S x0 15 13).bind fun v4 =>
        (aI S v4 0 x3).bind fun v5 =>
        gd (grc S x0 15) <|
        bn (n_X3_isBelow S x0 x1 v5) fun v7 S6 =>
        if v7 = 0 then
          n_X3_over_b40 (n_X3_over_b4 n) S6 x0 x1 x3 x2
        else
          n_X3_over_b40 (n_X3_over_b4 n) S6 x0 x1 x3 x3
def n_X3_over (S : St) (x0 : Option Nat) (x1 : Int32) : Option (Int32 × St) :=
  n_X3_over_b4 FU S x0 x1 (-1 : Int32) (0 : Int32)
theorem w_X3_over_b40 {K : KT} {r : Int32} {S1 : St} (C : GC K RX3 cX3_over 4 3 []) (E : EH (kΓ K) (kHI K) (kl K)) (Q : GQ K (some (Jvm.ClassFile.FieldType.int)) (.inl (some (vI r))) S1) {k4 : St → Option Nat → Int32 → Int32 → Int32 → Option (Int32 × St)} (h4 : ∀ (S : St) (x0 : Option Nat) (x1 : Int32) (x2 : Int32) (x3 : Int32), k4 S x0 x1 x2 x3 = some (r, S1) → G K 4 S 4 [(0, vR x0), (1, vI x1), (2, vI x2), (3, vI x3)] []) : ∀ (S : St) (x0 : Option Nat) (x1 : Int32) (x3 : Int32) (y0 : Int32), n_X3_over_b40 k4 S x0 x1 x3 y0 = some (r, S1) → G K 4 S 40 [(0, vR x0), (1, vI x1), (3, vI x3)] [vI y0] := by
  intro S x0 x1 x3 y0 hd
  unfold n_X3_over_b40 at hd
  refine g_istore_n (L' := [(2, vI y0), (0, vR x0), (1, vI x1), (3, vI x3)]) C dX3_over_40 rfl (by decide) rfl ?_
  refine g_iinc (v := x3 + 1) (L' := [(3, vI (x3 + 1)), (2, vI y0), (0, vR x0), (1, vI x1)]) C dX3_over_41 3 rfl rfl (by decide) rfl ?_
  refine g_goto (tgt := 4) C dX3_over_44 (by decide) ?_
  refine g_sub [2, 3, 1, 0] rfl ?_
  exact h4 _ _ _ _ _ hd
theorem w_X3_over_b4 {K : KT} {r : Int32} {S1 : St} (C : GC K RX3 cX3_over 4 3 []) (E : EH (kΓ K) (kHI K) (kl K)) (Q : GQ K (some (Jvm.ClassFile.FieldType.int)) (.inl (some (vI r))) S1) : ∀ (n : Nat) (S : St) (x0 : Option Nat) (x1 : Int32) (x2 : Int32) (x3 : Int32), n_X3_over_b4 n S x0 x1 x2 x3 = some (r, S1) → G K 4 S 4 [(0, vR x0), (1, vI x1), (2, vI x2), (3, vI x3)] [] := by
  intro n
  induction n with
  | zero => intro S x0 x1 x2 x3 hd; cases hd
  | succ n ih =>
    intro S x0 x1 x2 x3 hd
    unfold n_X3_over_b4 at hd
    refine g_iload_n C dX3_over_4 rfl 3 rfl ?_
    refine g_aload_n C dX3_over_5 rfl 0 rfl ?_
    obtain ⟨v1, hv1, hd⟩ := Option.bind_eq_some_iff.mp hd
    refine g_fld C gk_X3 (k := 12) (by decide) q1978 (Or.inl rfl) dX3_over_6 (gI_v hv1) ?_
    refine g_icmp_ge (tgt := 47) C dX3_over_9 (by decide) hd (fun hd => ?_) (fun hd => ?_)
    · refine g_iload_n C dX3_over_47 rfl 2 rfl ?_
      exact g_iret C Q hd dX3_over_48
    · refine g_aload_n C dX3_over_12 rfl 0 rfl ?_
      obtain ⟨v2, hv2, hd⟩ := Option.bind_eq_some_iff.mp hd
      refine g_fld C gk_X3 (k := 3) (by decide) q1969 (Or.inl rfl) dX3_over_13 (gR_v hv2) ?_
      refine g_iload_n C dX3_over_16 rfl 1 rfl ?_
      obtain ⟨v3, hv3, hd⟩ := Option.bind_eq_some_iff.mp hd
      refine g_zaldV C dX3_over_17 hv3 ?_
      refine g_if_eq (tgt := 47) C dX3_over_18 (by decide) hd (fun hd => ?_) (fun hd => ?_)
      · refine g_iload_n C dX3_over_47 rfl 2 rfl ?_
        exact g_iret C Q hd dX3_over_48
      · refine g_aload_n C dX3_over_21 rfl 0 rfl ?_
        refine g_iload_n C dX3_over_22 rfl 1 rfl ?_
        refine g_aload_n C dX3_over_23 rfl 0 rfl ?_
        obtain ⟨v4, hv4, hd⟩ := Option.bind_eq_some_iff.mp hd
        refine g_fld C gk_X3 (k := 13) (by decide) q1979 (Or.inl rfl) dX3_over_24 (gR_v hv4) ?_
        refine g_iload_n C dX3_over_27 rfl 3 rfl ?_
        obtain ⟨v5, hv5, hd⟩ := Option.bind_eq_some_iff.mp hd
        refine g_ialdV C dX3_over_28 hv5 ?_
        obtain ⟨hg, hd⟩ := gd_some hd
        obtain ⟨v7, S6, hc, hd⟩ := bn_some hd
        refine g_cV_v (n := 2) C (gk_X3).1 q2139 q2141 qs56 q108 q2142 (by decide +kernel) (by decide) (by decide) dX3_over_29 (As := [vI x1, vI v5]) (rest := []) rfl rfl (Nat.le_of_ble_eq_true rfl) hg (m_X3_isBelow E hc) ?_
        refine g_if_eq (tgt := 39) C dX3_over_32 (by decide) hd (fun hd => ?_) (fun hd => ?_)
        · refine g_iload_n C dX3_over_39 rfl 2 rfl ?_
          refine g_sub [0, 1, 3] rfl ?_
          exact w_X3_over_b40 C E Q ih _ _ _ _ _ hd
        · refine g_iload_n C dX3_over_35 rfl 3 rfl ?_
          refine g_goto (tgt := 40) C dX3_over_36 (by decide) ?_
          refine g_sub [0, 1, 3] rfl ?_
          exact w_X3_over_b40 C E Q ih _ _ _ _ _ hd
theorem w_X3_over_b0m {K : KT} {r : Int32} {S1 : St} (C : GC K RX3 cX3_over 4 3 []) (E : EH (kΓ K) (kHI K) (kl K)) (Q : GQ K (some (Jvm.ClassFile.FieldType.int)) (.inl (some (vI r))) S1) : ∀ (S : St) (x0 : Option Nat) (x1 : Int32), n_X3_over S x0 x1 = some (r, S1) → G K 4 S 0 [(0, vR x0), (1, vI x1)] [] := by
  intro S x0 x1 hd
  unfold n_X3_over at hd
  refine g_iconst (v := (-1)) C dX3_over_0 (by decide) ?_
  refine g_istore_n (L' := [(2, vI (-1 : Int32)), (0, vR x0), (1, vI x1)]) C dX3_over_1 rfl (by decide) rfl ?_
  refine g_iconst (v := 0) C dX3_over_2 (by decide) ?_
  refine g_istore_n (L' := [(3, vI (0 : Int32)), (2, vI (-1 : Int32)), (0, vR x0), (1, vI x1)]) C dX3_over_3 rfl (by decide) rfl ?_
  refine g_sub [2, 3, 1, 0] rfl ?_
  exact w_X3_over_b4 C E Q FU _ _ _ _ _ hd
theorem m_X3_over {Γ : GG} {HI : St → Heap → Prop} {l : Launch} (E : EH Γ HI l) {S : St} {a0 : Option Nat} {a1 : Int32} {r : Int32} {S1 : St} (h : n_X3_over S a0 a1 = some (r, S1)) : MS Γ HI l yX3_over cX3_over 4 (some (Jvm.ClassFile.FieldType.int)) 3 S [vR a0, vI a1] (.inl (some (vI r))) S1 := by
  refine MS_of E.ntr E.hx (by decide +kernel) rfl (Nat.le_of_ble_eq_true rfl) fun K e1 e2 e3 e4 hnm C Q => ?_
  subst e1; subst e2; subst e3
  exact w_X3_over_b0m C E Q S a0 a1 h

def n_X3_comes (S : St) (x0 : Option Nat) (x1 : Int32) (x2 : Int32) (x3 : Int32) : Option (Unit × St) :=
  if x1 = (-1 : Int32) then
    some ((), S)
  else
    (gR S x0 15 17).bind fun v1 =>
    (aI S v1 1 x1).bind fun v2 =>
    if v2 = 0 then
      (gR S x0 15 14).bind fun v3 =>
      (aI S v3 0 x1).bind fun v4 =>
      if v4 = (8 : Int32) then
        (gR S x0 15 14).bind fun v16 =>
        (sI S v16 0 x1 (0 : Int32)).bind fun S17 =>
        (gR S17 x0 15 17).bind fun v18 =>
        (sI S17 v18 1 x1 (1 : Int32)).bind fun S19 =>
        some ((), S19)
      else
        (gR S x0 15 15).bind fun v5 =>
        (gR S x0 15 14).bind fun v6 =>
        (aI S v6 0 x1).bind fun v7 =>
        (sI S v5 0 (((8 : Int32) * x1) + v7) x2).bind fun S8 =>
        (gR S8 x0 15 16).bind fun v9 =>
        (gR S8 x0 15 14).bind fun v10 =>
        (aI S8 v10 0 x1).bind fun v11 =>
        (sI S8 v9 0 (((8 : Int32) * x1) + v11) x3).bind fun S12 =>
        (gR S12 x0 15 14).bind fun v13 =>
        (aI S12 v13 0 x1).bind fun v14 =>
        (sI S12 v13 0 x1 (v14 + (1 : Int32))).bind fun S15 =>
        some ((), S15)
    else
      some ((), S)
theorem w_X3_comes_b0m {K : KT} {r : Unit} {S1 : St} (C : GC K RX3 cX3_comes 4 2 []) (E : EH (kΓ K) (kHI K) (kl K)) (Q : GQ K none (.inl none) S1) : ∀ (S : St) (x0 : Option Nat) (x1 : Int32) (x2 : Int32) (x3 : Int32), n_X3_comes S x0 x1 x2 x3 = some (r, S1) → G K 4 S 0 [(0, vR x0), (1, vI x1), (2, vI x2), (3, vI x3)] [] := by
  intro S x0 x1 x2 x3 hd
  unfold n_X3_comes at hd
  refine g_iload_n C dX3_comes_0 rfl 1 rfl ?_
  refine g_iconst (v := (-1)) C dX3_comes_1 (by decide) ?_
  refine g_icmp_eq (tgt := 14) C dX3_comes_2 (by decide) hd (fun hd => ?_) (fun hd => ?_)
  · exact g_vret C Q hd dX3_comes_14
  · refine g_aload_n C dX3_comes_5 rfl 0 rfl ?_
    obtain ⟨v1, hv1, hd⟩ := Option.bind_eq_some_iff.mp hd
    refine g_fld C gk_X3 (k := 17) (by decide) q1983 (Or.inl rfl) dX3_comes_6 (gR_v hv1) ?_
    refine g_iload_n C dX3_comes_9 rfl 1 rfl ?_
    obtain ⟨v2, hv2, hd⟩ := Option.bind_eq_some_iff.mp hd
    refine g_zaldV C dX3_comes_10 hv2 ?_
    refine g_if_eq (tgt := 15) C dX3_comes_11 (by decide) hd (fun hd => ?_) (fun hd => ?_)
    · refine g_aload_n C dX3_comes_15 rfl 0 rfl ?_
      obtain ⟨v3, hv3, hd⟩ := Option.bind_eq_some_iff.mp hd
      refine g_fld C gk_X3 (k := 14) (by decide) q1980 (Or.inl rfl) dX3_comes_16 (gR_v hv3) ?_
      refine g_iload_n C dX3_comes_19 rfl 1 rfl ?_
      obtain ⟨v4, hv4, hd⟩ := Option.bind_eq_some_iff.mp hd
      refine g_ialdV C dX3_comes_20 hv4 ?_
      refine g_bipush (v := 8) C dX3_comes_21 (by decide) ?_
      refine g_icmp_ne (tgt := 41) C dX3_comes_23 (by decide) hd (fun hd => ?_) (fun hd => ?_)
      · refine g_aload_n C dX3_comes_41 rfl 0 rfl ?_
        obtain ⟨v5, hv5, hd⟩ := Option.bind_eq_some_iff.mp hd
        refine g_fld C gk_X3 (k := 15) (by decide) q1981 (Or.inl rfl) dX3_comes_42 (gR_v hv5) ?_
        refine g_bipush (v := 8) C dX3_comes_45 (by decide) ?_
        refine g_iload_n C dX3_comes_47 rfl 1 rfl ?_
        refine g_imul C dX3_comes_48 ?_
        refine g_aload_n C dX3_comes_49 rfl 0 rfl ?_
        obtain ⟨v6, hv6, hd⟩ := Option.bind_eq_some_iff.mp hd
        refine g_fld C gk_X3 (k := 14) (by decide) q1980 (Or.inl rfl) dX3_comes_50 (gR_v hv6) ?_
        refine g_iload_n C dX3_comes_53 rfl 1 rfl ?_
        obtain ⟨v7, hv7, hd⟩ := Option.bind_eq_some_iff.mp hd
        refine g_ialdV C dX3_comes_54 hv7 ?_
        refine g_iadd C dX3_comes_55 ?_
        refine g_iload_n C dX3_comes_56 rfl 2 rfl ?_
        obtain ⟨S8, hS8, hd⟩ := Option.bind_eq_some_iff.mp hd
        refine g_iastV C dX3_comes_57 hS8 ?_
        refine g_aload_n C dX3_comes_58 rfl 0 rfl ?_
        obtain ⟨v9, hv9, hd⟩ := Option.bind_eq_some_iff.mp hd
        refine g_fld C gk_X3 (k := 16) (by decide) q1982 (Or.inl rfl) dX3_comes_59 (gR_v hv9) ?_
        refine g_bipush (v := 8) C dX3_comes_62 (by decide) ?_
        refine g_iload_n C dX3_comes_64 rfl 1 rfl ?_
        refine g_imul C dX3_comes_65 ?_
        refine g_aload_n C dX3_comes_66 rfl 0 rfl ?_
        obtain ⟨v10, hv10, hd⟩ := Option.bind_eq_some_iff.mp hd
        refine g_fld C gk_X3 (k := 14) (by decide) q1980 (Or.inl rfl) dX3_comes_67 (gR_v hv10) ?_
        refine g_iload_n C dX3_comes_70 rfl 1 rfl ?_
        obtain ⟨v11, hv11, hd⟩ := Option.bind_eq_some_iff.mp hd
        refine g_ialdV C dX3_comes_71 hv11 ?_
        refine g_iadd C dX3_comes_72 ?_
        refine g_iload_n C dX3_comes_73 rfl 3 rfl ?_
        obtain ⟨S12, hS12, hd⟩ := Option.bind_eq_some_iff.mp hd
        refine g_iastV C dX3_comes_74 hS12 ?_
        refine g_aload_n C dX3_comes_75 rfl 0 rfl ?_
        obtain ⟨v13, hv13, hd⟩ := Option.bind_eq_some_iff.mp hd
        refine g_fld C gk_X3 (k := 14) (by decide) q1980 (Or.inl rfl) dX3_comes_76 (gR_v hv13) ?_
        refine g_iload_n C dX3_comes_79 rfl 1 rfl ?_
        refine g_dup2 C dX3_comes_80 rfl rfl ?_
        obtain ⟨v14, hv14, hd⟩ := Option.bind_eq_some_iff.mp hd
        refine g_ialdV C dX3_comes_81 hv14 ?_
        refine g_iconst (v := 1) C dX3_comes_82 (by decide) ?_
        refine g_iadd C dX3_comes_83 ?_
        obtain ⟨S15, hS15, hd⟩ := Option.bind_eq_some_iff.mp hd
        refine g_iastV C dX3_comes_84 hS15 ?_
        exact g_vret C Q hd dX3_comes_85
      · refine g_aload_n C dX3_comes_26 rfl 0 rfl ?_
        obtain ⟨v16, hv16, hd⟩ := Option.bind_eq_some_iff.mp hd
        refine g_fld C gk_X3 (k := 14) (by decide) q1980 (Or.inl rfl) dX3_comes_27 (gR_v hv16) ?_
        refine g_iload_n C dX3_comes_30 rfl 1 rfl ?_
        refine g_iconst (v := 0) C dX3_comes_31 (by decide) ?_
        obtain ⟨S17, hS17, hd⟩ := Option.bind_eq_some_iff.mp hd
        refine g_iastV C dX3_comes_32 hS17 ?_
        refine g_aload_n C dX3_comes_33 rfl 0 rfl ?_
        obtain ⟨v18, hv18, hd⟩ := Option.bind_eq_some_iff.mp hd
        refine g_fld C gk_X3 (k := 17) (by decide) q1983 (Or.inl rfl) dX3_comes_34 (gR_v hv18) ?_
        refine g_iload_n C dX3_comes_37 rfl 1 rfl ?_
        refine g_iconst (v := 1) C dX3_comes_38 (by decide) ?_
        obtain ⟨S19, hS19, hd⟩ := Option.bind_eq_some_iff.mp hd
        refine g_zastV C dX3_comes_39 hS19 ?_
        exact g_vret C Q hd dX3_comes_40
    · exact g_vret C Q hd dX3_comes_14
theorem m_X3_comes {Γ : GG} {HI : St → Heap → Prop} {l : Launch} (E : EH Γ HI l) {S : St} {a0 : Option Nat} {a1 : Int32} {a2 : Int32} {a3 : Int32} {r : Unit} {S1 : St} (h : n_X3_comes S a0 a1 a2 a3 = some (r, S1)) : MS Γ HI l yX3_comes cX3_comes 4 none 2 S [vR a0, vI a1, vI a2, vI a3] (.inl none) S1 := by
  refine MS_of E.ntr E.hx (by decide +kernel) rfl (Nat.le_of_ble_eq_true rfl) fun K e1 e2 e3 e4 hnm C Q => ?_
  subst e1; subst e2; subst e3
  exact w_X3_comes_b0m C E Q S a0 a1 a2 a3 h

def n_X3_in (S : St) (x0 : Int32) (x1 : Int32) (x2 : Int32) : Option (Int32 × St) :=
  if x0 < x1 then
    rtI id (Jvm.ClassFile.FieldType.boolean) (0 : Int32) S
  else
    if x2 < x0 then
      rtI id (Jvm.ClassFile.FieldType.boolean) (0 : Int32) S
    else
      rtI id (Jvm.ClassFile.FieldType.boolean) (1 : Int32) S
theorem w_X3_in_b0m {K : KT} {r : Int32} {S1 : St} (C : GC K RX3 cX3_in 3 2 []) (E : EH (kΓ K) (kHI K) (kl K)) (Q : GQ K (some (Jvm.ClassFile.FieldType.boolean)) (.inl (some (vI r))) S1) : ∀ (S : St) (x0 : Int32) (x1 : Int32) (x2 : Int32), n_X3_in S x0 x1 x2 = some (r, S1) → G K 3 S 0 [(0, vI x0), (1, vI x1), (2, vI x2)] [] := by
  intro S x0 x1 x2 hd
  unfold n_X3_in at hd
  refine g_iload_n C dX3_in_0 rfl 0 rfl ?_
  refine g_iload_n C dX3_in_1 rfl 1 rfl ?_
  refine g_icmp_lt (tgt := 14) C dX3_in_2 (by decide) hd (fun hd => ?_) (fun hd => ?_)
  · refine g_iconst (v := 0) C dX3_in_14 (by decide) ?_
    exact g_iret C Q hd dX3_in_15
  · refine g_iload_n C dX3_in_5 rfl 0 rfl ?_
    refine g_iload_n C dX3_in_6 rfl 2 rfl ?_
    refine g_icmp_gt (tgt := 14) C dX3_in_7 (by decide) hd (fun hd => ?_) (fun hd => ?_)
    · refine g_iconst (v := 0) C dX3_in_14 (by decide) ?_
      exact g_iret C Q hd dX3_in_15
    · refine g_iconst (v := 1) C dX3_in_10 (by decide) ?_
      refine g_goto (tgt := 15) C dX3_in_11 (by decide) ?_
      exact g_iret C Q hd dX3_in_15
theorem m_X3_in {Γ : GG} {HI : St → Heap → Prop} {l : Launch} (E : EH Γ HI l) {S : St} {a0 : Int32} {a1 : Int32} {a2 : Int32} {r : Int32} {S1 : St} (h : n_X3_in S a0 a1 a2 = some (r, S1)) : MS Γ HI l yX3_in cX3_in 3 (some (Jvm.ClassFile.FieldType.boolean)) 2 S [vI a0, vI a1, vI a2] (.inl (some (vI r))) S1 := by
  refine MS_of E.ntr E.hx (by decide +kernel) rfl (Nat.le_of_ble_eq_true rfl) fun K e1 e2 e3 e4 hnm C Q => ?_
  subst e1; subst e2; subst e3
  exact w_X3_in_b0m C E Q S a0 a1 a2 h

def n_X3_isNode (S : St) (x0 : Option Nat) (x1 : Int32) : Option (Int32 × St) :=
  (gI S x0 15 2).bind fun v1 =>
  bn (n_X3_in S x1 (0 : Int32) (v1 - (1 : Int32))) fun v3 S2 =>
  if v3 = 0 then
    rtI id (Jvm.ClassFile.FieldType.boolean) (0 : Int32) S2
  else
    (gR S2 x0 15 3).bind fun v4 =>
    (aI S2 v4 1 x1).bind fun v5 =>
    if v5 = 0 then
      rtI id (Jvm.ClassFile.FieldType.boolean) (0 : Int32) S2
    else
      rtI id (Jvm.ClassFile.FieldType.boolean) (1 : Int32) S2
theorem w_X3_isNode_b0m {K : KT} {r : Int32} {S1 : St} (C : GC K RX3 cX3_isNode 2 3 []) (E : EH (kΓ K) (kHI K) (kl K)) (Q : GQ K (some (Jvm.ClassFile.FieldType.boolean)) (.inl (some (vI r))) S1) : ∀ (S : St) (x0 : Option Nat) (x1 : Int32), n_X3_isNode S x0 x1 = some (r, S1) → G K 2 S 0 [(0, vR x0), (1, vI x1)] [] := by
  intro S x0 x1 hd
  unfold n_X3_isNode at hd
  refine g_iload_n C dX3_isNode_0 rfl 1 rfl ?_
  refine g_iconst (v := 0) C dX3_isNode_1 (by decide) ?_
  refine g_aload_n C dX3_isNode_2 rfl 0 rfl ?_
  obtain ⟨v1, hv1, hd⟩ := Option.bind_eq_some_iff.mp hd
  refine g_fld C gk_X3 (k := 2) (by decide) q1968 (Or.inl rfl) dX3_isNode_3 (gI_v hv1) ?_
  refine g_iconst (v := 1) C dX3_isNode_6 (by decide) ?_
  refine g_isub C dX3_isNode_7 ?_
  obtain ⟨v3, S2, hc, hd⟩ := bn_some hd
  refine g_cS_v (n := 3) C q2124 q2125 q108 q2126 (by decide +kernel) (by decide) (by decide) dX3_isNode_8 (As := [vI x1, vI (0 : Int32), vI (v1 - (1 : Int32))]) (rest := []) rfl rfl (Nat.le_of_ble_eq_true rfl) (m_X3_in E hc) ?_
  refine g_if_eq (tgt := 27) C dX3_isNode_11 (by decide) hd (fun hd => ?_) (fun hd => ?_)
  · refine g_iconst (v := 0) C dX3_isNode_27 (by decide) ?_
    exact g_iret C Q hd dX3_isNode_28
  · refine g_aload_n C dX3_isNode_14 rfl 0 rfl ?_
    obtain ⟨v4, hv4, hd⟩ := Option.bind_eq_some_iff.mp hd
    refine g_fld C gk_X3 (k := 3) (by decide) q1969 (Or.inl rfl) dX3_isNode_15 (gR_v hv4) ?_
    refine g_iload_n C dX3_isNode_18 rfl 1 rfl ?_
    obtain ⟨v5, hv5, hd⟩ := Option.bind_eq_some_iff.mp hd
    refine g_zaldV C dX3_isNode_19 hv5 ?_
    refine g_if_eq (tgt := 27) C dX3_isNode_20 (by decide) hd (fun hd => ?_) (fun hd => ?_)
    · refine g_iconst (v := 0) C dX3_isNode_27 (by decide) ?_
      exact g_iret C Q hd dX3_isNode_28
    · refine g_iconst (v := 1) C dX3_isNode_23 (by decide) ?_
      refine g_goto (tgt := 28) C dX3_isNode_24 (by decide) ?_
      exact g_iret C Q hd dX3_isNode_28
theorem m_X3_isNode {Γ : GG} {HI : St → Heap → Prop} {l : Launch} (E : EH Γ HI l) {S : St} {a0 : Option Nat} {a1 : Int32} {r : Int32} {S1 : St} (h : n_X3_isNode S a0 a1 = some (r, S1)) : MS Γ HI l yX3_isNode cX3_isNode 2 (some (Jvm.ClassFile.FieldType.boolean)) 3 S [vR a0, vI a1] (.inl (some (vI r))) S1 := by
  refine MS_of E.ntr E.hx (by decide +kernel) rfl (Nat.le_of_ble_eq_true rfl) fun K e1 e2 e3 e4 hnm C Q => ?_
  subst e1; subst e2; subst e3
  exact w_X3_isNode_b0m C E Q S a0 a1 h

def n_X3_isFolderAt (S : St) (x0 : Option Nat) (x1 : Int32) : Option (Int32 × St) :=
  gd (grc S x0 15) <|
  bn (n_X3_isNode S x0 x1) fun v2 S1 =>
  if v2 = 0 then
    rtI id (Jvm.ClassFile.FieldType.boolean) (0 : Int32) S1
  else
    (gR S1 x0 15 4).bind fun v3 =>
    (aI S1 v3 1 x1).bind fun v4 =>
    if v4 = 0 then
      rtI id (Jvm.ClassFile.FieldType.boolean) (0 : Int32) S1
    else
      rtI id (Jvm.ClassFile.FieldType.boolean) (1 : Int32) S1
theorem w_X3_isFolderAt_b0m {K : KT} {r : Int32} {S1 : St} (C : GC K RX3 cX3_isFolderAt 2 4 []) (E : EH (kΓ K) (kHI K) (kl K)) (Q : GQ K (some (Jvm.ClassFile.FieldType.boolean)) (.inl (some (vI r))) S1) : ∀ (S : St) (x0 : Option Nat) (x1 : Int32), n_X3_isFolderAt S x0 x1 = some (r, S1) → G K 2 S 0 [(0, vR x0), (1, vI x1)] [] := by
  intro S x0 x1 hd
  unfold n_X3_isFolderAt at hd
  refine g_aload_n C dX3_isFolderAt_0 rfl 0 rfl ?_
  refine g_iload_n C dX3_isFolderAt_1 rfl 1 rfl ?_
  obtain ⟨hg, hd⟩ := gd_some hd
  obtain ⟨v2, S1, hc, hd⟩ := bn_some hd
  refine g_cV_v (n := 1) C (gk_X3).1 q2120 q2122 qs52 q108 q2123 (by decide +kernel) (by decide) (by decide) dX3_isFolderAt_2 (As := [vI x1]) (rest := []) rfl rfl (Nat.le_of_ble_eq_true rfl) hg (m_X3_isNode E hc) ?_
  refine g_if_eq (tgt := 21) C dX3_isFolderAt_5 (by decide) hd (fun hd => ?_) (fun hd => ?_)
  · refine g_iconst (v := 0) C dX3_isFolderAt_21 (by decide) ?_
    exact g_iret C Q hd dX3_isFolderAt_22
  · refine g_aload_n C dX3_isFolderAt_8 rfl 0 rfl ?_
    obtain ⟨v3, hv3, hd⟩ := Option.bind_eq_some_iff.mp hd
    refine g_fld C gk_X3 (k := 4) (by decide) q1970 (Or.inl rfl) dX3_isFolderAt_9 (gR_v hv3) ?_
    refine g_iload_n C dX3_isFolderAt_12 rfl 1 rfl ?_
    obtain ⟨v4, hv4, hd⟩ := Option.bind_eq_some_iff.mp hd
    refine g_zaldV C dX3_isFolderAt_13 hv4 ?_
    refine g_if_eq (tgt := 21) C dX3_isFolderAt_14 (by decide) hd (fun hd => ?_) (fun hd => ?_)
    · refine g_iconst (v := 0) C dX3_isFolderAt_21 (by decide) ?_
      exact g_iret C Q hd dX3_isFolderAt_22
    · refine g_iconst (v := 1) C dX3_isFolderAt_17 (by decide) ?_
      refine g_goto (tgt := 22) C dX3_isFolderAt_18 (by decide) ?_
      exact g_iret C Q hd dX3_isFolderAt_22
theorem m_X3_isFolderAt {Γ : GG} {HI : St → Heap → Prop} {l : Launch} (E : EH Γ HI l) {S : St} {a0 : Option Nat} {a1 : Int32} {r : Int32} {S1 : St} (h : n_X3_isFolderAt S a0 a1 = some (r, S1)) : MS Γ HI l yX3_isFolderAt cX3_isFolderAt 2 (some (Jvm.ClassFile.FieldType.boolean)) 4 S [vR a0, vI a1] (.inl (some (vI r))) S1 := by
  refine MS_of E.ntr E.hx (by decide +kernel) rfl (Nat.le_of_ble_eq_true rfl) fun K e1 e2 e3 e4 hnm C Q => ?_
  subst e1; subst e2; subst e3
  exact w_X3_isFolderAt_b0m C E Q S a0 a1 h

def n_X3_isTaken_b63 (k6 : St → Option Nat → Int32 → Int32 → Int32 → Int32 → Int32 → Option (Int32 × St)) (S : St) (x0 : Option Nat) (x1 : Int32) (x2 : Int32) (x3 : Int32) (x5 : Int32) (y0 : Int32) : Option (Int32 × St) :=
  k6 S x0 x1 x2 x3 y0 (x5 + 1)
def n_X3_isTaken_b58 (k6 : St → Option Nat → Int32 → Int32 → Int32 → Int32 → Int32 → Option (Int32 × St)) (S : St) (x0 : Option Nat) (x1 : Int32) (x2 : Int32) (x3 : Int32) (x5 : Int32) : Option (Int32 × St) :=
  n_X3_isTaken_b63 k6 S x0 x1 x2 x3 x5 (1 : Int32)
def n_X3_isTaken_b62 (k6 : St → Option Nat → Int32 → Int32 → Int32 → Int32 → Int32 → Option (Int32 × St)) (S : St) (x0 : Option Nat) (x1 : Int32) (x2 : Int32) (x3 : Int32) (x5 : Int32) : Option (Int32 × St) :=
  n_X3_isTaken_b63 k6 S x0 x1 x2 x3 x5 (0 : Int32)
def n_X3_isTaken_b6 : Nat → St → Option Nat → Int32 → Int32 → Int32 → Int32 → Int32 → Option (Int32 × St)
  | 0 => fun _ _ _ _ _ _ _ => none
  | n + 1 => fun S x0 x1 x2 x3 x4 x5 =>
    (gI S x0 15 2).bind fun v1 =>
    if v1 ≤ x5 then
      rtI id (Jvm.ClassFile.FieldType.boolean) x4 S
    else
      if x4 = 0 then
        if x5 = x3 then
          n_X3_isTaken_b62 (n_X3_isTaken_b6 n) S x0 x1 x2 x3 x5
        else
          (gR S x0 15 3).bind fun v2 =>
          (aI S v2 1 x5).bind fun v3 =>
          if v3 = 0 then
            n_X3_isTaken_b62 (n_X3_isTaken_b6 n) S x0 x1 x2 x3 x5
          else
            (gR S x0 15 5).bind fun v4 =>
            (aI S v4 0 x5).bind fun v5 =>
            if v5 = x1 then
              (gR S x0 15 6).bind fun v6 =>
              (aI S v6 2 x5).bind fun v7 =>
              if v7 = x2 then
                n_X3_isTaken_b58 (n_X3_isTaken_b6 n) S x0 x1 x2 x3 x5
              else
                n_X3_isTaken_b62 (n_X3_isTaken_b6 n) S x0 x1 x2 x3 x5
            else
              n_X3_isTaken_b62 (n_X3_isTaken_b6 n) S x0 x1 x2 x3 x5
      else
        n_X3_isTaken_b58 (n_X3_isTaken_b6 n) S x0 x1 x2 x3 x5
def n_X3_isTaken (S : St) (x0 : Option Nat) (x1 : Int32) (x2 : Int32) (x3 : Int32) : Option (Int32 × St) :=
  n_X3_isTaken_b6 FU S x0 x1 x2 x3 (0 : Int32) (0 : Int32)
theorem w_X3_isTaken_b63 {K : KT} {r : Int32} {S1 : St} (C : GC K RX3 cX3_isTaken 6 2 []) (E : EH (kΓ K) (kHI K) (kl K)) (Q : GQ K (some (Jvm.ClassFile.FieldType.boolean)) (.inl (some (vI r))) S1) {k6 : St → Option Nat → Int32 → Int32 → Int32 → Int32 → Int32 → Option (Int32 × St)} (h6 : ∀ (S : St) (x0 : Option Nat) (x1 : Int32) (x2 : Int32) (x3 : Int32) (x4 : Int32) (x5 : Int32), k6 S x0 x1 x2 x3 x4 x5 = some (r, S1) → G K 6 S 6 [(0, vR x0), (1, vI x1), (2, vI x2), (3, vI x3), (4, vI x4), (5, vI x5)] []) : ∀ (S : St) (x0 : Option Nat) (x1 : Int32) (x2 : Int32) (x3 : Int32) (x5 : Int32) (y0 : Int32), n_X3_isTaken_b63 k6 S x0 x1 x2 x3 x5 y0 = some (r, S1) → G K 6 S 63 [(0, vR x0), (1, vI x1), (2, vI x2), (3, vI x3), (5, vI x5)] [vI y0] := by
  intro S x0 x1 x2 x3 x5 y0 hd
  unfold n_X3_isTaken_b63 at hd
  refine g_istore (L' := [(4, vI y0), (0, vR x0), (1, vI x1), (2, vI x2), (3, vI x3), (5, vI x5)]) C dX3_isTaken_63 (by decide) rfl ?_
  refine g_iinc (v := x5 + 1) (L' := [(5, vI (x5 + 1)), (4, vI y0), (0, vR x0), (1, vI x1), (2, vI x2), (3, vI x3)]) C dX3_isTaken_65 5 rfl rfl (by decide) rfl ?_
  refine g_goto (tgt := 6) C dX3_isTaken_68 (by decide) ?_
  refine g_sub [2, 3, 4, 5, 1, 0] rfl ?_
  exact h6 _ _ _ _ _ _ _ hd
theorem w_X3_isTaken_b58 {K : KT} {r : Int32} {S1 : St} (C : GC K RX3 cX3_isTaken 6 2 []) (E : EH (kΓ K) (kHI K) (kl K)) (Q : GQ K (some (Jvm.ClassFile.FieldType.boolean)) (.inl (some (vI r))) S1) {k6 : St → Option Nat → Int32 → Int32 → Int32 → Int32 → Int32 → Option (Int32 × St)} (h6 : ∀ (S : St) (x0 : Option Nat) (x1 : Int32) (x2 : Int32) (x3 : Int32) (x4 : Int32) (x5 : Int32), k6 S x0 x1 x2 x3 x4 x5 = some (r, S1) → G K 6 S 6 [(0, vR x0), (1, vI x1), (2, vI x2), (3, vI x3), (4, vI x4), (5, vI x5)] []) : ∀ (S : St) (x0 : Option Nat) (x1 : Int32) (x2 : Int32) (x3 : Int32) (x5 : Int32), n_X3_isTaken_b58 k6 S x0 x1 x2 x3 x5 = some (r, S1) → G K 6 S 58 [(0, vR x0), (1, vI x1), (2, vI x2), (3, vI x3), (5, vI x5)] [] := by
  intro S x0 x1 x2 x3 x5 hd
  unfold n_X3_isTaken_b58 at hd
  refine g_iconst (v := 1) C dX3_isTaken_58 (by decide) ?_
  refine g_goto (tgt := 63) C dX3_isTaken_59 (by decide) ?_
  refine g_sub [0, 1, 2, 3, 4] rfl ?_
  exact w_X3_isTaken_b63 C E Q h6 _ _ _ _ _ _ _ hd
theorem w_X3_isTaken_b62 {K : KT} {r : Int32} {S1 : St} (C : GC K RX3 cX3_isTaken 6 2 []) (E : EH (kΓ K) (kHI K) (kl K)) (Q : GQ K (some (Jvm.ClassFile.FieldType.boolean)) (.inl (some (vI r))) S1) {k6 : St → Option Nat → Int32 → Int32 → Int32 → Int32 → Int32 → Option (Int32 × St)} (h6 : ∀ (S : St) (x0 : Option Nat) (x1 : Int32) (x2 : Int32) (x3 : Int32) (x4 : Int32) (x5 : Int32), k6 S x0 x1 x2 x3 x4 x5 = some (r, S1) → G K 6 S 6 [(0, vR x0), (1, vI x1), (2, vI x2), (3, vI x3), (4, vI x4), (5, vI x5)] []) : ∀ (S : St) (x0 : Option Nat) (x1 : Int32) (x2 : Int32) (x3 : Int32) (x5 : Int32), n_X3_isTaken_b62 k6 S x0 x1 x2 x3 x5 = some (r, S1) → G K 6 S 62 [(0, vR x0), (1, vI x1), (2, vI x2), (3, vI x3), (5, vI x5)] [] := by
  intro S x0 x1 x2 x3 x5 hd
  unfold n_X3_isTaken_b62 at hd
  refine g_iconst (v := 0) C dX3_isTaken_62 (by decide) ?_
  refine g_sub [0, 1, 2, 3, 4] rfl ?_
  exact w_X3_isTaken_b63 C E Q h6 _ _ _ _ _ _ _ hd
theorem w_X3_isTaken_b6 {K : KT} {r : Int32} {S1 : St} (C : GC K RX3 cX3_isTaken 6 2 []) (E : EH (kΓ K) (kHI K) (kl K)) (Q : GQ K (some (Jvm.ClassFile.FieldType.boolean)) (.inl (some (vI r))) S1) : ∀ (n : Nat) (S : St) (x0 : Option Nat) (x1 : Int32) (x2 : Int32) (x3 : Int32) (x4 : Int32) (x5 : Int32), n_X3_isTaken_b6 n S x0 x1 x2 x3 x4 x5 = some (r, S1) → G K 6 S 6 [(0, vR x0), (1, vI x1), (2, vI x2), (3, vI x3), (4, vI x4), (5, vI x5)] [] := by
  intro n
  induction n with
  | zero => intro S x0 x1 x2 x3 x4 x5 hd; cases hd
  | succ n ih =>
    intro S x0 x1 x2 x3 x4 x5 hd
    unfold n_X3_isTaken_b6 at hd
    refine g_iload C dX3_isTaken_6 5 rfl ?_
    refine g_aload_n C dX3_isTaken_8 rfl 0 rfl ?_
    obtain ⟨v1, hv1, hd⟩ := Option.bind_eq_some_iff.mp hd
    refine g_fld C gk_X3 (k := 2) (by decide) q1968 (Or.inl rfl) dX3_isTaken_9 (gI_v hv1) ?_
    refine g_icmp_ge (tgt := 71) C dX3_isTaken_12 (by decide) hd (fun hd => ?_) (fun hd => ?_)
    · refine g_iload C dX3_isTaken_71 4 rfl ?_
      exact g_iret C Q hd dX3_isTaken_73
    · refine g_iload C dX3_isTaken_15 4 rfl ?_
      refine g_if_ne (tgt := 58) C dX3_isTaken_17 (by decide) hd (fun hd => ?_) (fun hd => ?_)
      · refine g_sub [0, 1, 2, 3, 5] rfl ?_
        exact w_X3_isTaken_b58 C E Q ih _ _ _ _ _ _ hd
      · refine g_iload C dX3_isTaken_20 5 rfl ?_
        refine g_iload_n C dX3_isTaken_22 rfl 3 rfl ?_
        refine g_icmp_eq (tgt := 62) C dX3_isTaken_23 (by decide) hd (fun hd => ?_) (fun hd => ?_)
        · refine g_sub [0, 1, 2, 3, 5] rfl ?_
          exact w_X3_isTaken_b62 C E Q ih _ _ _ _ _ _ hd
        · refine g_aload_n C dX3_isTaken_26 rfl 0 rfl ?_
          obtain ⟨v2, hv2, hd⟩ := Option.bind_eq_some_iff.mp hd
          refine g_fld C gk_X3 (k := 3) (by decide) q1969 (Or.inl rfl) dX3_isTaken_27 (gR_v hv2) ?_
          refine g_iload C dX3_isTaken_30 5 rfl ?_
          obtain ⟨v3, hv3, hd⟩ := Option.bind_eq_some_iff.mp hd
          refine g_zaldV C dX3_isTaken_32 hv3 ?_
          refine g_if_eq (tgt := 62) C dX3_isTaken_33 (by decide) hd (fun hd => ?_) (fun hd => ?_)
          · refine g_sub [0, 1, 2, 3, 5] rfl ?_
            exact w_X3_isTaken_b62 C E Q ih _ _ _ _ _ _ hd
          · refine g_aload_n C dX3_isTaken_36 rfl 0 rfl ?_
            obtain ⟨v4, hv4, hd⟩ := Option.bind_eq_some_iff.mp hd
            refine g_fld C gk_X3 (k := 5) (by decide) q1971 (Or.inl rfl) dX3_isTaken_37 (gR_v hv4) ?_
            refine g_iload C dX3_isTaken_40 5 rfl ?_
            obtain ⟨v5, hv5, hd⟩ := Option.bind_eq_some_iff.mp hd
            refine g_ialdV C dX3_isTaken_42 hv5 ?_
            refine g_iload_n C dX3_isTaken_43 rfl 1 rfl ?_
            refine g_icmp_ne (tgt := 62) C dX3_isTaken_44 (by decide) hd (fun hd => ?_) (fun hd => ?_)
            · refine g_sub [0, 1, 2, 3, 5] rfl ?_
              exact w_X3_isTaken_b62 C E Q ih _ _ _ _ _ _ hd
            · refine g_aload_n C dX3_isTaken_47 rfl 0 rfl ?_
              obtain ⟨v6, hv6, hd⟩ := Option.bind_eq_some_iff.mp hd
              refine g_fld C gk_X3 (k := 6) (by decide) q1972 (Or.inl rfl) dX3_isTaken_48 (gR_v hv6) ?_
              refine g_iload C dX3_isTaken_51 5 rfl ?_
              obtain ⟨v7, hv7, hd⟩ := Option.bind_eq_some_iff.mp hd
              refine g_caldV C dX3_isTaken_53 hv7 ?_
              refine g_iload_n C dX3_isTaken_54 rfl 2 rfl ?_
              refine g_icmp_ne (tgt := 62) C dX3_isTaken_55 (by decide) hd (fun hd => ?_) (fun hd => ?_)
              · refine g_sub [0, 1, 2, 3, 5] rfl ?_
                exact w_X3_isTaken_b62 C E Q ih _ _ _ _ _ _ hd
              · refine g_sub [0, 1, 2, 3, 5] rfl ?_
                exact w_X3_isTaken_b58 C E Q ih _ _ _ _ _ _ hd
theorem w_X3_isTaken_b0m {K : KT} {r : Int32} {S1 : St} (C : GC K RX3 cX3_isTaken 6 2 []) (E : EH (kΓ K) (kHI K) (kl K)) (Q : GQ K (some (Jvm.ClassFile.FieldType.boolean)) (.inl (some (vI r))) S1) : ∀ (S : St) (x0 : Option Nat) (x1 : Int32) (x2 : Int32) (x3 : Int32), n_X3_isTaken S x0 x1 x2 x3 = some (r, S1) → G K 6 S 0 [(0, vR x0), (1, vI x1), (2, vI x2), (3, vI x3)] [] := by
  intro S x0 x1 x2 x3 hd
  unfold n_X3_isTaken at hd
  refine g_iconst (v := 0) C dX3_isTaken_0 (by decide) ?_
  refine g_istore (L' := [(4, vI (0 : Int32)), (0, vR x0), (1, vI x1), (2, vI x2), (3, vI x3)]) C dX3_isTaken_1 (by decide) rfl ?_
  refine g_iconst (v := 0) C dX3_isTaken_3 (by decide) ?_
  refine g_istore (L' := [(5, vI (0 : Int32)), (4, vI (0 : Int32)), (0, vR x0), (1, vI x1), (2, vI x2), (3, vI x3)]) C dX3_isTaken_4 (by decide) rfl ?_
  refine g_sub [2, 3, 4, 5, 1, 0] rfl ?_
  exact w_X3_isTaken_b6 C E Q FU _ _ _ _ _ _ _ hd
theorem m_X3_isTaken {Γ : GG} {HI : St → Heap → Prop} {l : Launch} (E : EH Γ HI l) {S : St} {a0 : Option Nat} {a1 : Int32} {a2 : Int32} {a3 : Int32} {r : Int32} {S1 : St} (h : n_X3_isTaken S a0 a1 a2 a3 = some (r, S1)) : MS Γ HI l yX3_isTaken cX3_isTaken 6 (some (Jvm.ClassFile.FieldType.boolean)) 2 S [vR a0, vI a1, vI a2, vI a3] (.inl (some (vI r))) S1 := by
  refine MS_of E.ntr E.hx (by decide +kernel) rfl (Nat.le_of_ble_eq_true rfl) fun K e1 e2 e3 e4 hnm C Q => ?_
  subst e1; subst e2; subst e3
  exact w_X3_isTaken_b0m C E Q S a0 a1 a2 a3 h

def n_X3_fails (S : St) (x0 : Option Nat) (x1 : Int32) : Option (Int32 × St) :=
  (pI .int S x0 15 0 x1).bind fun S1 =>
  rtI id (Jvm.ClassFile.FieldType.int) (0 : Int32) S1
theorem w_X3_fails_b0m {K : KT} {r : Int32} {S1 : St} (C : GC K RX3 cX3_fails 2 2 []) (E : EH (kΓ K) (kHI K) (kl K)) (Q : GQ K (some (Jvm.ClassFile.FieldType.int)) (.inl (some (vI r))) S1) : ∀ (S : St) (x0 : Option Nat) (x1 : Int32), n_X3_fails S x0 x1 = some (r, S1) → G K 2 S 0 [(0, vR x0), (1, vI x1)] [] := by
  intro S x0 x1 hd
  unfold n_X3_fails at hd
  refine g_aload_n C dX3_fails_0 rfl 0 rfl ?_
  refine g_iload_n C dX3_fails_1 rfl 1 rfl ?_
  obtain ⟨S1, hS1, hd⟩ := Option.bind_eq_some_iff.mp hd
  refine g_put C gk_X3 (k := 0) (by decide) q1966 (Or.inl rfl) rfl dX3_fails_2 (gfit_ok (pI_v hS1).1).1 (gfit_ok (pI_v hS1).1).2 (pI_v hS1).2 ?_
  refine g_iconst (v := 0) C dX3_fails_5 (by decide) ?_
  exact g_iret C Q hd dX3_fails_6
theorem m_X3_fails {Γ : GG} {HI : St → Heap → Prop} {l : Launch} (E : EH Γ HI l) {S : St} {a0 : Option Nat} {a1 : Int32} {r : Int32} {S1 : St} (h : n_X3_fails S a0 a1 = some (r, S1)) : MS Γ HI l yX3_fails cX3_fails 2 (some (Jvm.ClassFile.FieldType.int)) 2 S [vR a0, vI a1] (.inl (some (vI r))) S1 := by
  refine MS_of E.ntr E.hx (by decide +kernel) rfl (Nat.le_of_ble_eq_true rfl) fun K e1 e2 e3 e4 hnm C Q => ?_
  subst e1; subst e2; subst e3
  exact w_X3_fails_b0m C E Q S a0 a1 h

def n_X3_make_b54 (S : St) (x0 : Option Nat) (x1 : Int32) (x2 : Int32) (x3 : Int32) (y0 : Int32) (y1 : Option Nat) : Option (Int32 × St) :=
  (pI .int S y1 15 0 y0).bind fun S1 =>
  (gI S1 x0 15 0).bind fun v2 =>
  if v2 ≤ 0 then
    (gI S1 x0 15 2).bind fun v3 =>
    (gR S1 x0 15 3).bind fun v4 =>
    (sI S1 v4 1 v3 (1 : Int32)).bind fun S5 =>
    (gR S5 x0 15 4).bind fun v6 =>
    (sI S5 v6 1 v3 x3).bind fun S7 =>
    (gR S7 x0 15 5).bind fun v8 =>
    (sI S7 v8 0 v3 x1).bind fun S9 =>
    (gR S9 x0 15 6).bind fun v10 =>
    (sI S9 v10 2 v3 x2).bind fun S11 =>
    (gR S11 x0 15 7).bind fun v12 =>
    (sI S11 v12 0 v3 (1 : Int32)).bind fun S13 =>
    (gR S13 x0 15 11).bind fun v14 =>
    (sI S13 v14 0 v3 (15 : Int32)).bind fun S15 =>
    (gI S15 x0 15 2).bind fun v16 =>
    (pI .int S15 x0 15 2 (v16 + (1 : Int32))).bind fun S17 =>
    gd (grc S17 x0 15) <|
    bn (n_X3_over S17 x0 v3) fun v19 S18 =>
    gd (grc S18 x0 15) <|
    bn (n_X3_comes S18 x0 v19 (0 : Int32) v3) fun _ S20 =>
    rtI id (Jvm.ClassFile.FieldType.int) v3 S20
  else
    rtI id (Jvm.ClassFile.FieldType.int) (0 : Int32) S1
def n_X3_make_b49 (S : St) (x0 : Option Nat) (x1 : Int32) (x2 : Int32) (x3 : Int32) (y0 : Option Nat) : Option (Int32 × St) :=
  n_X3_make_b54 S x0 x1 x2 x3 (3 : Int32) y0
def n_X3_make (S : St) (x0 : Option Nat) (x1 : Int32) (x2 : Int32) (x3 : Int32) : Option (Int32 × St) :=
  gd (grc S x0 15) <|
  bn (n_X3_isFolderAt S x0 x1) fun v2 S1 =>
  if v2 = 0 then
    gd (grc S1 x0 15) <|
    bn (n_X3_fails S1 x0 (1 : Int32)) fun v9 S8 =>
    rtI id (Jvm.ClassFile.FieldType.int) v9 S8
  else
    bn (n_X3_in S1 x2 (97 : Int32) (122 : Int32)) fun v4 S3 =>
    if v4 = 0 then
      n_X3_make_b54 S3 x0 x1 x2 x3 (2 : Int32) x0
    else
      gd (grc S3 x0 15) <|
      bn (n_X3_isTaken S3 x0 x1 x2 (-1 : Int32)) fun v6 S5 =>
      if v6 = 0 then
        (gI S5 x0 15 2).bind fun v7 =>
        if v7 = (60 : Int32) then
          n_X3_make_b49 S5 x0 x1 x2 x3 x0
        else
          n_X3_make_b54 S5 x0 x1 x2 x3 (0 : Int32) x0
      else
        n_X3_make_b49 S5 x0 x1 x2 x3 x0
theorem w_X3_make_b54 {K : KT} {r : Int32} {S1 : St} (C : GC K RX3 cX3_make 5 5 []) (E : EH (kΓ K) (kHI K) (kl K)) (Q : GQ K (some (Jvm.ClassFile.FieldType.int)) (.inl (some (vI r))) S1) : ∀ (S : St) (x0 : Option Nat) (x1 : Int32) (x2 : Int32) (x3 : Int32) (y0 : Int32) (y1 : Option Nat), n_X3_make_b54 S x0 x1 x2 x3 y0 y1 = some (r, S1) → G K 5 S 54 [(0, vR x0), (1, vI x1), (2, vI x2), (3, vI x3)] [vI y0, vR y1] := by
  intro S x0 x1 x2 x3 y0 y1 hd
  unfold n_X3_make_b54 at hd
  obtain ⟨S1, hS1, hd⟩ := Option.bind_eq_some_iff.mp hd
  refine g_put C gk_X3 (k := 0) (by decide) q1966 (Or.inl rfl) rfl dX3_make_54 (gfit_ok (pI_v hS1).1).1 (gfit_ok (pI_v hS1).1).2 (pI_v hS1).2 ?_
  refine g_aload_n C dX3_make_57 rfl 0 rfl ?_
  obtain ⟨v2, hv2, hd⟩ := Option.bind_eq_some_iff.mp hd
  refine g_fld C gk_X3 (k := 0) (by decide) q1966 (Or.inl rfl) dX3_make_58 (gI_v hv2) ?_
  refine g_if_le (tgt := 66) C dX3_make_61 (by decide) hd (fun hd => ?_) (fun hd => ?_)
  · refine g_aload_n C dX3_make_66 rfl 0 rfl ?_
    obtain ⟨v3, hv3, hd⟩ := Option.bind_eq_some_iff.mp hd
    refine g_fld C gk_X3 (k := 2) (by decide) q1968 (Or.inl rfl) dX3_make_67 (gI_v hv3) ?_
    refine g_istore (L' := [(4, vI v3), (0, vR x0), (1, vI x1), (2, vI x2), (3, vI x3)]) C dX3_make_70 (by decide) rfl ?_
    refine g_aload_n C dX3_make_72 rfl 1 rfl ?_
    obtain ⟨v4, hv4, hd⟩ := Option.bind_eq_some_iff.mp hd
    refine g_fld C gk_X3 (k := 3) (by decide) q1969 (Or.inl rfl) dX3_make_73 (gR_v hv4) ?_
    refine g_iload C dX3_make_76 0 rfl ?_
    refine g_iconst (v := 1) C dX3_make_78 (by decide) ?_
    obtain ⟨S5, hS5, hd⟩ := Option.bind_eq_some_iff.mp hd
    refine g_zastV C dX3_make_79 hS5 ?_
    refine g_aload_n C dX3_make_80 rfl 1 rfl ?_
    obtain ⟨v6, hv6, hd⟩ := Option.bind_eq_some_iff.mp hd
    refine g_fld C gk_X3 (k := 4) (by decide) q1970 (Or.inl rfl) dX3_make_81 (gR_v hv6) ?_
    refine g_iload C dX3_make_84 0 rfl ?_
    refine g_iload_n C dX3_make_86 rfl 4 rfl ?_
    obtain ⟨S7, hS7, hd⟩ := Option.bind_eq_some_iff.mp hd
    refine g_zastV C dX3_make_87 hS7 ?_
    refine g_aload_n C dX3_make_88 rfl 1 rfl ?_
    obtain ⟨v8, hv8, hd⟩ := Option.bind_eq_some_iff.mp hd
    refine g_fld C gk_X3 (k := 5) (by decide) q1971 (Or.inl rfl) dX3_make_89 (gR_v hv8) ?_
    refine g_iload C dX3_make_92 0 rfl ?_
    refine g_iload_n C dX3_make_94 rfl 2 rfl ?_
    obtain ⟨S9, hS9, hd⟩ := Option.bind_eq_some_iff.mp hd
    refine g_iastV C dX3_make_95 hS9 ?_
    refine g_aload_n C dX3_make_96 rfl 1 rfl ?_
    obtain ⟨v10, hv10, hd⟩ := Option.bind_eq_some_iff.mp hd
    refine g_fld C gk_X3 (k := 6) (by decide) q1972 (Or.inl rfl) dX3_make_97 (gR_v hv10) ?_
    refine g_iload C dX3_make_100 0 rfl ?_
    refine g_iload_n C dX3_make_102 rfl 3 rfl ?_
    obtain ⟨S11, hS11, hd⟩ := Option.bind_eq_some_iff.mp hd
    refine g_castV C dX3_make_103 hS11 ?_
    refine g_aload_n C dX3_make_104 rfl 1 rfl ?_
    obtain ⟨v12, hv12, hd⟩ := Option.bind_eq_some_iff.mp hd
    refine g_fld C gk_X3 (k := 7) (by decide) q1973 (Or.inl rfl) dX3_make_105 (gR_v hv12) ?_
    refine g_iload C dX3_make_108 0 rfl ?_
    refine g_iconst (v := 1) C dX3_make_110 (by decide) ?_
    obtain ⟨S13, hS13, hd⟩ := Option.bind_eq_some_iff.mp hd
    refine g_iastV C dX3_make_111 hS13 ?_
    refine g_aload_n C dX3_make_112 rfl 1 rfl ?_
    obtain ⟨v14, hv14, hd⟩ := Option.bind_eq_some_iff.mp hd
    refine g_fld C gk_X3 (k := 11) (by decide) q1977 (Or.inl rfl) dX3_make_113 (gR_v hv14) ?_
    refine g_iload C dX3_make_116 0 rfl ?_
    refine g_bipush (v := 15) C dX3_make_118 (by decide) ?_
    obtain ⟨S15, hS15, hd⟩ := Option.bind_eq_some_iff.mp hd
    refine g_iastV C dX3_make_120 hS15 ?_
    refine g_aload_n C dX3_make_121 rfl 1 rfl ?_
    refine g_dup C dX3_make_122 rfl ?_
    obtain ⟨v16, hv16, hd⟩ := Option.bind_eq_some_iff.mp hd
    refine g_fld C gk_X3 (k := 2) (by decide) q1968 (Or.inl rfl) dX3_make_123 (gI_v hv16) ?_
    refine g_iconst (v := 1) C dX3_make_126 (by decide) ?_
    refine g_iadd C dX3_make_127 ?_
    obtain ⟨S17, hS17, hd⟩ := Option.bind_eq_some_iff.mp hd
    refine g_put C gk_X3 (k := 2) (by decide) q1968 (Or.inl rfl) rfl dX3_make_128 (gfit_ok (pI_v hS17).1).1 (gfit_ok (pI_v hS17).1).2 (pI_v hS17).2 ?_
    refine g_aload_n C dX3_make_131 rfl 1 rfl ?_
    refine g_aload_n C dX3_make_132 rfl 1 rfl ?_
    refine g_iload C dX3_make_133 0 rfl ?_
    obtain ⟨hg, hd⟩ := gd_some hd
    obtain ⟨v19, S18, hc, hd⟩ := bn_some hd
    refine g_cV_v (n := 1) C (gk_X3).1 q2135 q2137 qs55 q108 q2138 (by decide +kernel) (by decide) (by decide) dX3_make_135 (As := [vI v3]) (rest := [vR x0]) rfl rfl (Nat.le_of_ble_eq_true rfl) hg (m_X3_over E hc) ?_
    refine g_iconst (v := 0) C dX3_make_138 (by decide) ?_
    refine g_iload C dX3_make_139 0 rfl ?_
    obtain ⟨hg, hd⟩ := gd_some hd
    obtain ⟨_, S20, hc, hd⟩ := bn_some hd
    refine g_cV_n (n := 3) C (gk_X3).1 q2143 q2145 qs57 q108 q2146 (by decide +kernel) (by decide) (by decide) dX3_make_141 (As := [vI v19, vI (0 : Int32), vI v3]) (rest := []) rfl rfl (Nat.le_of_ble_eq_true rfl) hg (m_X3_comes E hc) ?_
    refine g_iload C dX3_make_144 0 rfl ?_
    exact g_iret C Q hd dX3_make_146
  · refine g_iconst (v := 0) C dX3_make_64 (by decide) ?_
    exact g_iret C Q hd dX3_make_65
theorem w_X3_make_b49 {K : KT} {r : Int32} {S1 : St} (C : GC K RX3 cX3_make 5 5 []) (E : EH (kΓ K) (kHI K) (kl K)) (Q : GQ K (some (Jvm.ClassFile.FieldType.int)) (.inl (some (vI r))) S1) : ∀ (S : St) (x0 : Option Nat) (x1 : Int32) (x2 : Int32) (x3 : Int32) (y0 : Option Nat), n_X3_make_b49 S x0 x1 x2 x3 y0 = some (r, S1) → G K 5 S 49 [(0, vR x0), (1, vI x1), (2, vI x2), (3, vI x3)] [vR y0] := by
  intro S x0 x1 x2 x3 y0 hd
  unfold n_X3_make_b49 at hd
  refine g_iconst (v := 3) C dX3_make_49 (by decide) ?_
  refine g_goto (tgt := 54) C dX3_make_50 (by decide) ?_
  refine g_sub [0, 1, 2, 3] rfl ?_
  exact w_X3_make_b54 C E Q _ _ _ _ _ _ _ hd
theorem w_X3_make_b0m {K : KT} {r : Int32} {S1 : St} (C : GC K RX3 cX3_make 5 5 []) (E : EH (kΓ K) (kHI K) (kl K)) (Q : GQ K (some (Jvm.ClassFile.FieldType.int)) (.inl (some (vI r))) S1) : ∀ (S : St) (x0 : Option Nat) (x1 : Int32) (x2 : Int32) (x3 : Int32), n_X3_make S x0 x1 x2 x3 = some (r, S1) → G K 5 S 0 [(0, vR x0), (1, vI x1), (2, vI x2), (3, vI x3)] [] := by
  intro S x0 x1 x2 x3 hd
  unfold n_X3_make at hd
  refine g_aload_n C dX3_make_0 rfl 0 rfl ?_
  refine g_iload_n C dX3_make_1 rfl 1 rfl ?_
  obtain ⟨hg, hd⟩ := gd_some hd
  obtain ⟨v2, S1, hc, hd⟩ := bn_some hd
  refine g_cV_v (n := 1) C (gk_X3).1 q2116 q2118 qs51 q108 q2119 (by decide +kernel) (by decide) (by decide) dX3_make_2 (As := [vI x1]) (rest := []) rfl rfl (Nat.le_of_ble_eq_true rfl) hg (m_X3_isFolderAt E hc) ?_
  refine g_if_ne (tgt := 14) C dX3_make_5 (by decide) hd (fun hd => ?_) (fun hd => ?_)
  · refine g_aload_n C dX3_make_14 rfl 0 rfl ?_
    refine g_iload_n C dX3_make_15 rfl 2 rfl ?_
    refine g_bipush (v := 97) C dX3_make_16 (by decide) ?_
    refine g_bipush (v := 122) C dX3_make_18 (by decide) ?_
    obtain ⟨v4, S3, hc, hd⟩ := bn_some hd
    refine g_cS_v (n := 3) C q2124 q2125 q108 q2126 (by decide +kernel) (by decide) (by decide) dX3_make_20 (As := [vI x2, vI (97 : Int32), vI (122 : Int32)]) (rest := [vR x0]) rfl rfl (Nat.le_of_ble_eq_true rfl) (m_X3_in E hc) ?_
    refine g_if_ne (tgt := 30) C dX3_make_23 (by decide) hd (fun hd => ?_) (fun hd => ?_)
    · refine g_aload_n C dX3_make_30 rfl 0 rfl ?_
      refine g_iload_n C dX3_make_31 rfl 1 rfl ?_
      refine g_iload_n C dX3_make_32 rfl 2 rfl ?_
      refine g_iconst (v := (-1)) C dX3_make_33 (by decide) ?_
      obtain ⟨hg, hd⟩ := gd_some hd
      obtain ⟨v6, S5, hc, hd⟩ := bn_some hd
      refine g_cV_v (n := 3) C (gk_X3).1 q2131 q2133 qs54 q108 q2134 (by decide +kernel) (by decide) (by decide) dX3_make_34 (As := [vI x1, vI x2, vI (-1 : Int32)]) (rest := [vR x0]) rfl rfl (Nat.le_of_ble_eq_true rfl) hg (m_X3_isTaken E hc) ?_
      refine g_if_ne (tgt := 49) C dX3_make_37 (by decide) hd (fun hd => ?_) (fun hd => ?_)
      · refine g_sub [0, 1, 2, 3] rfl ?_
        exact w_X3_make_b49 C E Q _ _ _ _ _ _ hd
      · refine g_aload_n C dX3_make_40 rfl 0 rfl ?_
        obtain ⟨v7, hv7, hd⟩ := Option.bind_eq_some_iff.mp hd
        refine g_fld C gk_X3 (k := 2) (by decide) q1968 (Or.inl rfl) dX3_make_41 (gI_v hv7) ?_
        refine g_bipush (v := 60) C dX3_make_44 (by decide) ?_
        refine g_icmp_ne (tgt := 53) C dX3_make_46 (by decide) hd (fun hd => ?_) (fun hd => ?_)
        · refine g_iconst (v := 0) C dX3_make_53 (by decide) ?_
          refine g_sub [0, 1, 2, 3] rfl ?_
          exact w_X3_make_b54 C E Q _ _ _ _ _ _ _ hd
        · refine g_sub [0, 1, 2, 3] rfl ?_
          exact w_X3_make_b49 C E Q _ _ _ _ _ _ hd
    · refine g_iconst (v := 2) C dX3_make_26 (by decide) ?_
      refine g_goto (tgt := 54) C dX3_make_27 (by decide) ?_
      refine g_sub [0, 1, 2, 3] rfl ?_
      exact w_X3_make_b54 C E Q _ _ _ _ _ _ _ hd
  · refine g_aload_n C dX3_make_8 rfl 0 rfl ?_
    refine g_iconst (v := 1) C dX3_make_9 (by decide) ?_
    obtain ⟨hg, hd⟩ := gd_some hd
    obtain ⟨v9, S8, hc, hd⟩ := bn_some hd
    refine g_cV_v (n := 1) C (gk_X3).1 q2127 q2129 qs53 q108 q2130 (by decide +kernel) (by decide) (by decide) dX3_make_10 (As := [vI (1 : Int32)]) (rest := []) rfl rfl (Nat.le_of_ble_eq_true rfl) hg (m_X3_fails E hc) ?_
    exact g_iret C Q hd dX3_make_13
theorem m_X3_make {Γ : GG} {HI : St → Heap → Prop} {l : Launch} (E : EH Γ HI l) {S : St} {a0 : Option Nat} {a1 : Int32} {a2 : Int32} {a3 : Int32} {r : Int32} {S1 : St} (h : n_X3_make S a0 a1 a2 a3 = some (r, S1)) : MS Γ HI l yX3_make cX3_make 5 (some (Jvm.ClassFile.FieldType.int)) 5 S [vR a0, vI a1, vI a2, vI a3] (.inl (some (vI r))) S1 := by
  refine MS_of E.ntr E.hx (by decide +kernel) rfl (Nat.le_of_ble_eq_true rfl) fun K e1 e2 e3 e4 hnm C Q => ?_
  subst e1; subst e2; subst e3
  exact w_X3_make_b0m C E Q S a0 a1 a2 a3 h

def n_X3_isFileAt (S : St) (x0 : Option Nat) (x1 : Int32) : Option (Int32 × St) :=
  gd (grc S x0 15) <|
  bn (n_X3_isNode S x0 x1) fun v2 S1 =>
  if v2 = 0 then
    rtI id (Jvm.ClassFile.FieldType.boolean) (0 : Int32) S1
  else
    (gR S1 x0 15 4).bind fun v3 =>
    (aI S1 v3 1 x1).bind fun v4 =>
    if v4 = 0 then
      rtI id (Jvm.ClassFile.FieldType.boolean) (1 : Int32) S1
    else
      rtI id (Jvm.ClassFile.FieldType.boolean) (0 : Int32) S1
theorem w_X3_isFileAt_b0m {K : KT} {r : Int32} {S1 : St} (C : GC K RX3 cX3_isFileAt 2 4 []) (E : EH (kΓ K) (kHI K) (kl K)) (Q : GQ K (some (Jvm.ClassFile.FieldType.boolean)) (.inl (some (vI r))) S1) : ∀ (S : St) (x0 : Option Nat) (x1 : Int32), n_X3_isFileAt S x0 x1 = some (r, S1) → G K 2 S 0 [(0, vR x0), (1, vI x1)] [] := by
  intro S x0 x1 hd
  unfold n_X3_isFileAt at hd
  refine g_aload_n C dX3_isFileAt_0 rfl 0 rfl ?_
  refine g_iload_n C dX3_isFileAt_1 rfl 1 rfl ?_
  obtain ⟨hg, hd⟩ := gd_some hd
  obtain ⟨v2, S1, hc, hd⟩ := bn_some hd
  refine g_cV_v (n := 1) C (gk_X3).1 q2120 q2122 qs52 q108 q2123 (by decide +kernel) (by decide) (by decide) dX3_isFileAt_2 (As := [vI x1]) (rest := []) rfl rfl (Nat.le_of_ble_eq_true rfl) hg (m_X3_isNode E hc) ?_
  refine g_if_eq (tgt := 21) C dX3_isFileAt_5 (by decide) hd (fun hd => ?_) (fun hd => ?_)
  · refine g_iconst (v := 0) C dX3_isFileAt_21 (by decide) ?_
    exact g_iret C Q hd dX3_isFileAt_22
  · refine g_aload_n C dX3_isFileAt_8 rfl 0 rfl ?_
    obtain ⟨v3, hv3, hd⟩ := Option.bind_eq_some_iff.mp hd
    refine g_fld C gk_X3 (k := 4) (by decide) q1970 (Or.inl rfl) dX3_isFileAt_9 (gR_v hv3) ?_
    refine g_iload_n C dX3_isFileAt_12 rfl 1 rfl ?_
    obtain ⟨v4, hv4, hd⟩ := Option.bind_eq_some_iff.mp hd
    refine g_zaldV C dX3_isFileAt_13 hv4 ?_
    refine g_if_ne (tgt := 21) C dX3_isFileAt_14 (by decide) hd (fun hd => ?_) (fun hd => ?_)
    · refine g_iconst (v := 0) C dX3_isFileAt_21 (by decide) ?_
      exact g_iret C Q hd dX3_isFileAt_22
    · refine g_iconst (v := 1) C dX3_isFileAt_17 (by decide) ?_
      refine g_goto (tgt := 22) C dX3_isFileAt_18 (by decide) ?_
      exact g_iret C Q hd dX3_isFileAt_22
theorem m_X3_isFileAt {Γ : GG} {HI : St → Heap → Prop} {l : Launch} (E : EH Γ HI l) {S : St} {a0 : Option Nat} {a1 : Int32} {r : Int32} {S1 : St} (h : n_X3_isFileAt S a0 a1 = some (r, S1)) : MS Γ HI l yX3_isFileAt cX3_isFileAt 2 (some (Jvm.ClassFile.FieldType.boolean)) 4 S [vR a0, vI a1] (.inl (some (vI r))) S1 := by
  refine MS_of E.ntr E.hx (by decide +kernel) rfl (Nat.le_of_ble_eq_true rfl) fun K e1 e2 e3 e4 hnm C Q => ?_
  subst e1; subst e2; subst e3
  exact w_X3_isFileAt_b0m C E Q S a0 a1 h

def n_X3_write_b58 (S : St) (x0 : Option Nat) (x1 : Int32) (x2 : Int32) (y0 : Int32) (y1 : Option Nat) : Option (Int32 × St) :=
  (pI .int S y1 15 0 y0).bind fun S1 =>
  (gI S1 x0 15 0).bind fun v2 =>
  if v2 ≤ 0 then
    (gR S1 x0 15 9).bind fun v3 =>
    (gR S1 x0 15 8).bind fun v4 =>
    (aI S1 v4 0 x1).bind fun v5 =>
    (sI S1 v3 0 (((20 : Int32) * x1) + v5) x2).bind fun S6 =>
    (gR S6 x0 15 8).bind fun v7 =>
    (aI S6 v7 0 x1).bind fun v8 =>
    (sI S6 v7 0 x1 (v8 + (1 : Int32))).bind fun S9 =>
    (gR S9 x0 15 7).bind fun v10 =>
    (aI S9 v10 0 x1).bind fun v11 =>
    (sI S9 v10 0 x1 (v11 + (1 : Int32))).bind fun S12 =>
    gd (grc S12 x0 15) <|
    bn (n_X3_over S12 x0 x1) fun v14 S13 =>
    gd (grc S13 x0 15) <|
    bn (n_X3_comes S13 x0 v14 (1 : Int32) x1) fun _ S15 =>
    (gR S15 x0 15 7).bind fun v17 =>
    (aI S15 v17 0 x1).bind fun v18 =>
    rtI id (Jvm.ClassFile.FieldType.int) v18 S15
  else
    rtI id (Jvm.ClassFile.FieldType.int) (0 : Int32) S1
def n_X3_write_b29 (S : St) (x0 : Option Nat) (x1 : Int32) (x2 : Int32) (y0 : Option Nat) : Option (Int32 × St) :=
  n_X3_write_b58 S x0 x1 x2 (2 : Int32) y0
def n_X3_write_b53 (S : St) (x0 : Option Nat) (x1 : Int32) (x2 : Int32) (y0 : Option Nat) : Option (Int32 × St) :=
  n_X3_write_b58 S x0 x1 x2 (3 : Int32) y0
def n_X3_write (S : St) (x0 : Option Nat) (x1 : Int32) (x2 : Int32) : Option (Int32 × St) :=
  gd (grc S x0 15) <|
  bn (n_X3_isFileAt S x0 x1) fun v2 S1 =>
  if v2 = 0 then
    n_X3_write_b58 S1 x0 x1 x2 (1 : Int32) x0
  else
    bn (n_X3_in S1 x2 (-3 : Int32) (99 : Int32)) fun v4 S3 =>
    if v4 = 0 then
      n_X3_write_b29 S3 x0 x1 x2 x0
    else
      if x2 = (-1 : Int32) then
        n_X3_write_b29 S3 x0 x1 x2 x0
      else
        (gR S3 x0 15 10).bind fun v5 =>
        (aI S3 v5 1 x1).bind fun v6 =>
        if v6 = 0 then
          (gR S3 x0 15 8).bind fun v7 =>
          (aI S3 v7 0 x1).bind fun v8 =>
          if v8 = (20 : Int32) then
            n_X3_write_b53 S3 x0 x1 x2 x0
          else
            n_X3_write_b58 S3 x0 x1 x2 (0 : Int32) x0
        else
          n_X3_write_b53 S3 x0 x1 x2 x0
theorem w_X3_write_b58 {K : KT} {r : Int32} {S1 : St} (C : GC K RX3 cX3_write 3 5 []) (E : EH (kΓ K) (kHI K) (kl K)) (Q : GQ K (some (Jvm.ClassFile.FieldType.int)) (.inl (some (vI r))) S1) : ∀ (S : St) (x0 : Option Nat) (x1 : Int32) (x2 : Int32) (y0 : Int32) (y1 : Option Nat), n_X3_write_b58 S x0 x1 x2 y0 y1 = some (r, S1) → G K 3 S 58 [(0, vR x0), (1, vI x1), (2, vI x2)] [vI y0, vR y1] := by
  intro S x0 x1 x2 y0 y1 hd
  unfold n_X3_write_b58 at hd
  obtain ⟨S1, hS1, hd⟩ := Option.bind_eq_some_iff.mp hd
  refine g_put C gk_X3 (k := 0) (by decide) q1966 (Or.inl rfl) rfl dX3_write_58 (gfit_ok (pI_v hS1).1).1 (gfit_ok (pI_v hS1).1).2 (pI_v hS1).2 ?_
  refine g_aload_n C dX3_write_61 rfl 0 rfl ?_
  obtain ⟨v2, hv2, hd⟩ := Option.bind_eq_some_iff.mp hd
  refine g_fld C gk_X3 (k := 0) (by decide) q1966 (Or.inl rfl) dX3_write_62 (gI_v hv2) ?_
  refine g_if_le (tgt := 70) C dX3_write_65 (by decide) hd (fun hd => ?_) (fun hd => ?_)
  · refine g_aload_n C dX3_write_70 rfl 0 rfl ?_
    obtain ⟨v3, hv3, hd⟩ := Option.bind_eq_some_iff.mp hd
    refine g_fld C gk_X3 (k := 9) (by decide) q1975 (Or.inl rfl) dX3_write_71 (gR_v hv3) ?_
    refine g_bipush (v := 20) C dX3_write_74 (by decide) ?_
    refine g_iload_n C dX3_write_76 rfl 1 rfl ?_
    refine g_imul C dX3_write_77 ?_
    refine g_aload_n C dX3_write_78 rfl 0 rfl ?_
    obtain ⟨v4, hv4, hd⟩ := Option.bind_eq_some_iff.mp hd
    refine g_fld C gk_X3 (k := 8) (by decide) q1974 (Or.inl rfl) dX3_write_79 (gR_v hv4) ?_
    refine g_iload_n C dX3_write_82 rfl 1 rfl ?_
    obtain ⟨v5, hv5, hd⟩ := Option.bind_eq_some_iff.mp hd
    refine g_ialdV C dX3_write_83 hv5 ?_
    refine g_iadd C dX3_write_84 ?_
    refine g_iload_n C dX3_write_85 rfl 2 rfl ?_
    obtain ⟨S6, hS6, hd⟩ := Option.bind_eq_some_iff.mp hd
    refine g_iastV C dX3_write_86 hS6 ?_
    refine g_aload_n C dX3_write_87 rfl 0 rfl ?_
    obtain ⟨v7, hv7, hd⟩ := Option.bind_eq_some_iff.mp hd
    refine g_fld C gk_X3 (k := 8) (by decide) q1974 (Or.inl rfl) dX3_write_88 (gR_v hv7) ?_
    refine g_iload_n C dX3_write_91 rfl 1 rfl ?_
    refine g_dup2 C dX3_write_92 rfl rfl ?_
    obtain ⟨v8, hv8, hd⟩ := Option.bind_eq_some_iff.mp hd
    refine g_ialdV C dX3_write_93 hv8 ?_
    refine g_iconst (v := 1) C dX3_write_94 (by decide) ?_
    refine g_iadd C dX3_write_95 ?_
    obtain ⟨S9, hS9, hd⟩ := Option.bind_eq_some_iff.mp hd
    refine g_iastV C dX3_write_96 hS9 ?_
    refine g_aload_n C dX3_write_97 rfl 0 rfl ?_
    obtain ⟨v10, hv10, hd⟩ := Option.bind_eq_some_iff.mp hd
    refine g_fld C gk_X3 (k := 7) (by decide) q1973 (Or.inl rfl) dX3_write_98 (gR_v hv10) ?_
    refine g_iload_n C dX3_write_101 rfl 1 rfl ?_
    refine g_dup2 C dX3_write_102 rfl rfl ?_
    obtain ⟨v11, hv11, hd⟩ := Option.bind_eq_some_iff.mp hd
    refine g_ialdV C dX3_write_103 hv11 ?_
    refine g_iconst (v := 1) C dX3_write_104 (by decide) ?_
    refine g_iadd C dX3_write_105 ?_
    obtain ⟨S12, hS12, hd⟩ := Option.bind_eq_some_iff.mp hd
    refine g_iastV C dX3_write_106 hS12 ?_
    refine g_aload_n C dX3_write_107 rfl 0 rfl ?_
    refine g_aload_n C dX3_write_108 rfl 0 rfl ?_
    refine g_iload_n C dX3_write_109 rfl 1 rfl ?_
    obtain ⟨hg, hd⟩ := gd_some hd
    obtain ⟨v14, S13, hc, hd⟩ := bn_some hd
    refine g_cV_v (n := 1) C (gk_X3).1 q2135 q2137 qs55 q108 q2138 (by decide +kernel) (by decide) (by decide) dX3_write_110 (As := [vI x1]) (rest := [vR x0]) rfl rfl (Nat.le_of_ble_eq_true rfl) hg (m_X3_over E hc) ?_
    refine g_iconst (v := 1) C dX3_write_113 (by decide) ?_
    refine g_iload_n C dX3_write_114 rfl 1 rfl ?_
    obtain ⟨hg, hd⟩ := gd_some hd
    obtain ⟨_, S15, hc, hd⟩ := bn_some hd
    refine g_cV_n (n := 3) C (gk_X3).1 q2143 q2145 qs57 q108 q2146 (by decide +kernel) (by decide) (by decide) dX3_write_115 (As := [vI v14, vI (1 : Int32), vI x1]) (rest := []) rfl rfl (Nat.le_of_ble_eq_true rfl) hg (m_X3_comes E hc) ?_
    refine g_aload_n C dX3_write_118 rfl 0 rfl ?_
    obtain ⟨v17, hv17, hd⟩ := Option.bind_eq_some_iff.mp hd
    refine g_fld C gk_X3 (k := 7) (by decide) q1973 (Or.inl rfl) dX3_write_119 (gR_v hv17) ?_
    refine g_iload_n C dX3_write_122 rfl 1 rfl ?_
    obtain ⟨v18, hv18, hd⟩ := Option.bind_eq_some_iff.mp hd
    refine g_ialdV C dX3_write_123 hv18 ?_
    exact g_iret C Q hd dX3_write_124
  · refine g_iconst (v := 0) C dX3_write_68 (by decide) ?_
    exact g_iret C Q hd dX3_write_69
theorem w_X3_write_b29 {K : KT} {r : Int32} {S1 : St} (C : GC K RX3 cX3_write 3 5 []) (E : EH (kΓ K) (kHI K) (kl K)) (Q : GQ K (some (Jvm.ClassFile.FieldType.int)) (.inl (some (vI r))) S1) : ∀ (S : St) (x0 : Option Nat) (x1 : Int32) (x2 : Int32) (y0 : Option Nat), n_X3_write_b29 S x0 x1 x2 y0 = some (r, S1) → G K 3 S 29 [(0, vR x0), (1, vI x1), (2, vI x2)] [vR y0] := by
  intro S x0 x1 x2 y0 hd
  unfold n_X3_write_b29 at hd
  refine g_iconst (v := 2) C dX3_write_29 (by decide) ?_
  refine g_goto (tgt := 58) C dX3_write_30 (by decide) ?_
  refine g_sub [0, 1, 2] rfl ?_
  exact w_X3_write_b58 C E Q _ _ _ _ _ _ hd
theorem w_X3_write_b53 {K : KT} {r : Int32} {S1 : St} (C : GC K RX3 cX3_write 3 5 []) (E : EH (kΓ K) (kHI K) (kl K)) (Q : GQ K (some (Jvm.ClassFile.FieldType.int)) (.inl (some (vI r))) S1) : ∀ (S : St) (x0 : Option Nat) (x1 : Int32) (x2 : Int32) (y0 : Option Nat), n_X3_write_b53 S x0 x1 x2 y0 = some (r, S1) → G K 3 S 53 [(0, vR x0), (1, vI x1), (2, vI x2)] [vR y0] := by
  intro S x0 x1 x2 y0 hd
  unfold n_X3_write_b53 at hd
  refine g_iconst (v := 3) C dX3_write_53 (by decide) ?_
  refine g_goto (tgt := 58) C dX3_write_54 (by decide) ?_
  refine g_sub [0, 1, 2] rfl ?_
  exact w_X3_write_b58 C E Q _ _ _ _ _ _ hd
theorem w_X3_write_b0m {K : KT} {r : Int32} {S1 : St} (C : GC K RX3 cX3_write 3 5 []) (E : EH (kΓ K) (kHI K) (kl K)) (Q : GQ K (some (Jvm.ClassFile.FieldType.int)) (.inl (some (vI r))) S1) : ∀ (S : St) (x0 : Option Nat) (x1 : Int32) (x2 : Int32), n_X3_write S x0 x1 x2 = some (r, S1) → G K 3 S 0 [(0, vR x0), (1, vI x1), (2, vI x2)] [] := by
  intro S x0 x1 x2 hd
  unfold n_X3_write at hd
  refine g_aload_n C dX3_write_0 rfl 0 rfl ?_
  refine g_aload_n C dX3_write_1 rfl 0 rfl ?_
  refine g_iload_n C dX3_write_2 rfl 1 rfl ?_
  obtain ⟨hg, hd⟩ := gd_some hd
  obtain ⟨v2, S1, hc, hd⟩ := bn_some hd
  refine g_cV_v (n := 1) C (gk_X3).1 q2151 q2153 qs58 q108 q2154 (by decide +kernel) (by decide) (by decide) dX3_write_3 (As := [vI x1]) (rest := [vR x0]) rfl rfl (Nat.le_of_ble_eq_true rfl) hg (m_X3_isFileAt E hc) ?_
  refine g_if_ne (tgt := 13) C dX3_write_6 (by decide) hd (fun hd => ?_) (fun hd => ?_)
  · refine g_iload_n C dX3_write_13 rfl 2 rfl ?_
    refine g_bipush (v := (-3)) C dX3_write_14 (by decide) ?_
    refine g_bipush (v := 99) C dX3_write_16 (by decide) ?_
    obtain ⟨v4, S3, hc, hd⟩ := bn_some hd
    refine g_cS_v (n := 3) C q2124 q2125 q108 q2126 (by decide +kernel) (by decide) (by decide) dX3_write_18 (As := [vI x2, vI (-3 : Int32), vI (99 : Int32)]) (rest := [vR x0]) rfl rfl (Nat.le_of_ble_eq_true rfl) (m_X3_in E hc) ?_
    refine g_if_eq (tgt := 29) C dX3_write_21 (by decide) hd (fun hd => ?_) (fun hd => ?_)
    · refine g_sub [0, 1, 2] rfl ?_
      exact w_X3_write_b29 C E Q _ _ _ _ _ hd
    · refine g_iload_n C dX3_write_24 rfl 2 rfl ?_
      refine g_iconst (v := (-1)) C dX3_write_25 (by decide) ?_
      refine g_icmp_ne (tgt := 33) C dX3_write_26 (by decide) hd (fun hd => ?_) (fun hd => ?_)
      · refine g_aload_n C dX3_write_33 rfl 0 rfl ?_
        obtain ⟨v5, hv5, hd⟩ := Option.bind_eq_some_iff.mp hd
        refine g_fld C gk_X3 (k := 10) (by decide) q1976 (Or.inl rfl) dX3_write_34 (gR_v hv5) ?_
        refine g_iload_n C dX3_write_37 rfl 1 rfl ?_
        obtain ⟨v6, hv6, hd⟩ := Option.bind_eq_some_iff.mp hd
        refine g_zaldV C dX3_write_38 hv6 ?_
        refine g_if_ne (tgt := 53) C dX3_write_39 (by decide) hd (fun hd => ?_) (fun hd => ?_)
        · refine g_sub [0, 1, 2] rfl ?_
          exact w_X3_write_b53 C E Q _ _ _ _ _ hd
        · refine g_aload_n C dX3_write_42 rfl 0 rfl ?_
          obtain ⟨v7, hv7, hd⟩ := Option.bind_eq_some_iff.mp hd
          refine g_fld C gk_X3 (k := 8) (by decide) q1974 (Or.inl rfl) dX3_write_43 (gR_v hv7) ?_
          refine g_iload_n C dX3_write_46 rfl 1 rfl ?_
          obtain ⟨v8, hv8, hd⟩ := Option.bind_eq_some_iff.mp hd
          refine g_ialdV C dX3_write_47 hv8 ?_
          refine g_bipush (v := 20) C dX3_write_48 (by decide) ?_
          refine g_icmp_ne (tgt := 57) C dX3_write_50 (by decide) hd (fun hd => ?_) (fun hd => ?_)
          · refine g_iconst (v := 0) C dX3_write_57 (by decide) ?_
            refine g_sub [0, 1, 2] rfl ?_
            exact w_X3_write_b58 C E Q _ _ _ _ _ _ hd
          · refine g_sub [0, 1, 2] rfl ?_
            exact w_X3_write_b53 C E Q _ _ _ _ _ hd
      · refine g_sub [0, 1, 2] rfl ?_
        exact w_X3_write_b29 C E Q _ _ _ _ _ hd
  · refine g_iconst (v := 1) C dX3_write_9 (by decide) ?_
    refine g_goto (tgt := 58) C dX3_write_10 (by decide) ?_
    refine g_sub [0, 1, 2] rfl ?_
    exact w_X3_write_b58 C E Q _ _ _ _ _ _ hd
theorem m_X3_write {Γ : GG} {HI : St → Heap → Prop} {l : Launch} (E : EH Γ HI l) {S : St} {a0 : Option Nat} {a1 : Int32} {a2 : Int32} {r : Int32} {S1 : St} (h : n_X3_write S a0 a1 a2 = some (r, S1)) : MS Γ HI l yX3_write cX3_write 3 (some (Jvm.ClassFile.FieldType.int)) 5 S [vR a0, vI a1, vI a2] (.inl (some (vI r))) S1 := by
  refine MS_of E.ntr E.hx (by decide +kernel) rfl (Nat.le_of_ble_eq_true rfl) fun K e1 e2 e3 e4 hnm C Q => ?_
  subst e1; subst e2; subst e3
  exact w_X3_write_b0m C E Q S a0 a1 a2 h

def n_X3_empty_b27 (S : St) (x0 : Option Nat) (x1 : Int32) (y0 : Int32) (y1 : Option Nat) : Option (Int32 × St) :=
  (pI .int S y1 15 0 y0).bind fun S1 =>
  (gI S1 x0 15 0).bind fun v2 =>
  if v2 ≤ 0 then
    (gR S1 x0 15 8).bind fun v3 =>
    (aI S1 v3 0 x1).bind fun v4 =>
    (gR S1 x0 15 8).bind fun v5 =>
    (sI S1 v5 0 x1 (0 : Int32)).bind fun S6 =>
    (gR S6 x0 15 7).bind fun v7 =>
    (aI S6 v7 0 x1).bind fun v8 =>
    (sI S6 v7 0 x1 (v8 + (1 : Int32))).bind fun S9 =>
    gd (grc S9 x0 15) <|
    bn (n_X3_over S9 x0 x1) fun v11 S10 =>
    gd (grc S10 x0 15) <|
    bn (n_X3_comes S10 x0 v11 (1 : Int32) x1) fun _ S12 =>
    rtI id (Jvm.ClassFile.FieldType.int) v4 S12
  else
    rtI id (Jvm.ClassFile.FieldType.int) (0 : Int32) S1
def n_X3_empty (S : St) (x0 : Option Nat) (x1 : Int32) : Option (Int32 × St) :=
  gd (grc S x0 15) <|
  bn (n_X3_isFileAt S x0 x1) fun v2 S1 =>
  if v2 = 0 then
    n_X3_empty_b27 S1 x0 x1 (1 : Int32) x0
  else
    (gR S1 x0 15 10).bind fun v3 =>
    (aI S1 v3 1 x1).bind fun v4 =>
    if v4 = 0 then
      n_X3_empty_b27 S1 x0 x1 (0 : Int32) x0
    else
      n_X3_empty_b27 S1 x0 x1 (2 : Int32) x0
theorem w_X3_empty_b27 {K : KT} {r : Int32} {S1 : St} (C : GC K RX3 cX3_empty 3 5 []) (E : EH (kΓ K) (kHI K) (kl K)) (Q : GQ K (some (Jvm.ClassFile.FieldType.int)) (.inl (some (vI r))) S1) : ∀ (S : St) (x0 : Option Nat) (x1 : Int32) (y0 : Int32) (y1 : Option Nat), n_X3_empty_b27 S x0 x1 y0 y1 = some (r, S1) → G K 3 S 27 [(0, vR x0), (1, vI x1)] [vI y0, vR y1] := by
  intro S x0 x1 y0 y1 hd
  unfold n_X3_empty_b27 at hd
  obtain ⟨S1, hS1, hd⟩ := Option.bind_eq_some_iff.mp hd
  refine g_put C gk_X3 (k := 0) (by decide) q1966 (Or.inl rfl) rfl dX3_empty_27 (gfit_ok (pI_v hS1).1).1 (gfit_ok (pI_v hS1).1).2 (pI_v hS1).2 ?_
  refine g_aload_n C dX3_empty_30 rfl 0 rfl ?_
  obtain ⟨v2, hv2, hd⟩ := Option.bind_eq_some_iff.mp hd
  refine g_fld C gk_X3 (k := 0) (by decide) q1966 (Or.inl rfl) dX3_empty_31 (gI_v hv2) ?_
  refine g_if_le (tgt := 39) C dX3_empty_34 (by decide) hd (fun hd => ?_) (fun hd => ?_)
  · refine g_aload_n C dX3_empty_39 rfl 0 rfl ?_
    obtain ⟨v3, hv3, hd⟩ := Option.bind_eq_some_iff.mp hd
    refine g_fld C gk_X3 (k := 8) (by decide) q1974 (Or.inl rfl) dX3_empty_40 (gR_v hv3) ?_
    refine g_iload_n C dX3_empty_43 rfl 1 rfl ?_
    obtain ⟨v4, hv4, hd⟩ := Option.bind_eq_some_iff.mp hd
    refine g_ialdV C dX3_empty_44 hv4 ?_
    refine g_istore_n (L' := [(2, vI v4), (0, vR x0), (1, vI x1)]) C dX3_empty_45 rfl (by decide) rfl ?_
    refine g_aload_n C dX3_empty_46 rfl 1 rfl ?_
    obtain ⟨v5, hv5, hd⟩ := Option.bind_eq_some_iff.mp hd
    refine g_fld C gk_X3 (k := 8) (by decide) q1974 (Or.inl rfl) dX3_empty_47 (gR_v hv5) ?_
    refine g_iload_n C dX3_empty_50 rfl 2 rfl ?_
    refine g_iconst (v := 0) C dX3_empty_51 (by decide) ?_
    obtain ⟨S6, hS6, hd⟩ := Option.bind_eq_some_iff.mp hd
    refine g_iastV C dX3_empty_52 hS6 ?_
    refine g_aload_n C dX3_empty_53 rfl 1 rfl ?_
    obtain ⟨v7, hv7, hd⟩ := Option.bind_eq_some_iff.mp hd
    refine g_fld C gk_X3 (k := 7) (by decide) q1973 (Or.inl rfl) dX3_empty_54 (gR_v hv7) ?_
    refine g_iload_n C dX3_empty_57 rfl 2 rfl ?_
    refine g_dup2 C dX3_empty_58 rfl rfl ?_
    obtain ⟨v8, hv8, hd⟩ := Option.bind_eq_some_iff.mp hd
    refine g_ialdV C dX3_empty_59 hv8 ?_
    refine g_iconst (v := 1) C dX3_empty_60 (by decide) ?_
    refine g_iadd C dX3_empty_61 ?_
    obtain ⟨S9, hS9, hd⟩ := Option.bind_eq_some_iff.mp hd
    refine g_iastV C dX3_empty_62 hS9 ?_
    refine g_aload_n C dX3_empty_63 rfl 1 rfl ?_
    refine g_aload_n C dX3_empty_64 rfl 1 rfl ?_
    refine g_iload_n C dX3_empty_65 rfl 2 rfl ?_
    obtain ⟨hg, hd⟩ := gd_some hd
    obtain ⟨v11, S10, hc, hd⟩ := bn_some hd
    refine g_cV_v (n := 1) C (gk_X3).1 q2135 q2137 qs55 q108 q2138 (by decide +kernel) (by decide) (by decide) dX3_empty_66 (As := [vI x1]) (rest := [vR x0]) rfl rfl (Nat.le_of_ble_eq_true rfl) hg (m_X3_over E hc) ?_
    refine g_iconst (v := 1) C dX3_empty_69 (by decide) ?_
    refine g_iload_n C dX3_empty_70 rfl 2 rfl ?_
    obtain ⟨hg, hd⟩ := gd_some hd
    obtain ⟨_, S12, hc, hd⟩ := bn_some hd
    refine g_cV_n (n := 3) C (gk_X3).1 q2143 q2145 qs57 q108 q2146 (by decide +kernel) (by decide) (by decide) dX3_empty_71 (As := [vI v11, vI (1 : Int32), vI x1]) (rest := []) rfl rfl (Nat.le_of_ble_eq_true rfl) hg (m_X3_comes E hc) ?_
    refine g_iload_n C dX3_empty_74 rfl 0 rfl ?_
    exact g_iret C Q hd dX3_empty_75
  · refine g_iconst (v := 0) C dX3_empty_37 (by decide) ?_
    exact g_iret C Q hd dX3_empty_38
theorem w_X3_empty_b0m {K : KT} {r : Int32} {S1 : St} (C : GC K RX3 cX3_empty 3 5 []) (E : EH (kΓ K) (kHI K) (kl K)) (Q : GQ K (some (Jvm.ClassFile.FieldType.int)) (.inl (some (vI r))) S1) : ∀ (S : St) (x0 : Option Nat) (x1 : Int32), n_X3_empty S x0 x1 = some (r, S1) → G K 3 S 0 [(0, vR x0), (1, vI x1)] [] := by
  intro S x0 x1 hd
  unfold n_X3_empty at hd
  refine g_aload_n C dX3_empty_0 rfl 0 rfl ?_
  refine g_aload_n C dX3_empty_1 rfl 0 rfl ?_
  refine g_iload_n C dX3_empty_2 rfl 1 rfl ?_
  obtain ⟨hg, hd⟩ := gd_some hd
  obtain ⟨v2, S1, hc, hd⟩ := bn_some hd
  refine g_cV_v (n := 1) C (gk_X3).1 q2151 q2153 qs58 q108 q2154 (by decide +kernel) (by decide) (by decide) dX3_empty_3 (As := [vI x1]) (rest := [vR x0]) rfl rfl (Nat.le_of_ble_eq_true rfl) hg (m_X3_isFileAt E hc) ?_
  refine g_if_ne (tgt := 13) C dX3_empty_6 (by decide) hd (fun hd => ?_) (fun hd => ?_)
  · refine g_aload_n C dX3_empty_13 rfl 0 rfl ?_
    obtain ⟨v3, hv3, hd⟩ := Option.bind_eq_some_iff.mp hd
    refine g_fld C gk_X3 (k := 10) (by decide) q1976 (Or.inl rfl) dX3_empty_14 (gR_v hv3) ?_
    refine g_iload_n C dX3_empty_17 rfl 1 rfl ?_
    obtain ⟨v4, hv4, hd⟩ := Option.bind_eq_some_iff.mp hd
    refine g_zaldV C dX3_empty_18 hv4 ?_
    refine g_if_eq (tgt := 26) C dX3_empty_19 (by decide) hd (fun hd => ?_) (fun hd => ?_)
    · refine g_iconst (v := 0) C dX3_empty_26 (by decide) ?_
      refine g_sub [0, 1] rfl ?_
      exact w_X3_empty_b27 C E Q _ _ _ _ _ hd
    · refine g_iconst (v := 2) C dX3_empty_22 (by decide) ?_
      refine g_goto (tgt := 27) C dX3_empty_23 (by decide) ?_
      refine g_sub [0, 1] rfl ?_
      exact w_X3_empty_b27 C E Q _ _ _ _ _ hd
  · refine g_iconst (v := 1) C dX3_empty_9 (by decide) ?_
    refine g_goto (tgt := 27) C dX3_empty_10 (by decide) ?_
    refine g_sub [0, 1] rfl ?_
    exact w_X3_empty_b27 C E Q _ _ _ _ _ hd
theorem m_X3_empty {Γ : GG} {HI : St → Heap → Prop} {l : Launch} (E : EH Γ HI l) {S : St} {a0 : Option Nat} {a1 : Int32} {r : Int32} {S1 : St} (h : n_X3_empty S a0 a1 = some (r, S1)) : MS Γ HI l yX3_empty cX3_empty 3 (some (Jvm.ClassFile.FieldType.int)) 5 S [vR a0, vI a1] (.inl (some (vI r))) S1 := by
  refine MS_of E.ntr E.hx (by decide +kernel) rfl (Nat.le_of_ble_eq_true rfl) fun K e1 e2 e3 e4 hnm C Q => ?_
  subst e1; subst e2; subst e3
  exact w_X3_empty_b0m C E Q S a0 a1 h

def n_X3_holdsRoot_b45 (k4 : St → Option Nat → Int32 → Int32 → Int32 → Option (Int32 × St)) (S : St) (x0 : Option Nat) (x1 : Int32) (x3 : Int32) (y0 : Int32) : Option (Int32 × St) :=
  k4 S x0 x1 y0 (x3 + 1)
def n_X3_holdsRoot_b40 (k4 : St → Option Nat → Int32 → Int32 → Int32 → Option (Int32 × St)) (S : St) (x0 : Option Nat) (x1 : Int32) (x3 : Int32) : Option (Int32 × St) :=
  n_X3_holdsRoot_b45 k4 S x0 x1 x3 (1 : Int32)
def n_X3_holdsRoot_b4 : Nat → St → Option Nat → Int32 → Int32 → Int32 → Option (Int32 × St)
  | 0 => fun _ _ _ _ _ => none
  | n + 1 => fun S x0 x1 x2 x3 =>
    (gI S x0 15 12).bind fun v1 =>
    if v1 ≤ x3 then
      rtI id (Jvm.ClassFile.FieldType.boolean) x2 S
    else
      if x2 = 0 then
        (gR S x0 15 13).bind fun v2 =>
        (aI S v2 0 x3).bind fun v3 =>
        if v3 = x1 then
          n_X3_holdsRoot_b40 (n_X3_holdsRoot_b4 n) S x0 x1 x3
        else
          (gR S x0 15 13).bind fun v4 =>
          (aI S v4 0 x3).bind fun v5 =>
          gd (grc S x0 15) <|
          bn (n_X3_isBelow S x0 v5 x1) fun v7 S6 =>
          if v7 = 0 then
            n_X3_holdsRoot_b45 (n_X3_holdsRoot_b4 n) S6 x0 x1 x3 (0 : Int32)
          else
            n_X3_holdsRoot_b40 (n_X3_holdsRoot_b4 n) S6 x0 x1 x3
      else
        n_X3_holdsRoot_b40 (n_X3_holdsRoot_b4 n) S x0 x1 x3
def n_X3_holdsRoot (S : St) (x0 : Option Nat) (x1 : Int32) : Option (Int32 × St) :=
  n_X3_holdsRoot_b4 FU S x0 x1 (0 : Int32) (0 : Int32)
theorem w_X3_holdsRoot_b45 {K : KT} {r : Int32} {S1 : St} (C : GC K RX3 cX3_holdsRoot 4 3 []) (E : EH (kΓ K) (kHI K) (kl K)) (Q : GQ K (some (Jvm.ClassFile.FieldType.boolean)) (.inl (some (vI r))) S1) {k4 : St → Option Nat → Int32 → Int32 → Int32 → Option (Int32 × St)} (h4 : ∀ (S : St) (x0 : Option Nat) (x1 : Int32) (x2 : Int32) (x3 : Int32), k4 S x0 x1 x2 x3 = some (r, S1) → G K 4 S 4 [(0, vR x0), (1, vI x1), (2, vI x2), (3, vI x3)] []) : ∀ (S : St) (x0 : Option Nat) (x1 : Int32) (x3 : Int32) (y0 : Int32), n_X3_holdsRoot_b45 k4 S x0 x1 x3 y0 = some (r, S1) → G K 4 S 45 [(0, vR x0), (1, vI x1), (3, vI x3)] [vI y0] := by
  intro S x0 x1 x3 y0 hd
  unfold n_X3_holdsRoot_b45 at hd
  refine g_istore_n (L' := [(2, vI y0), (0, vR x0), (1, vI x1), (3, vI x3)]) C dX3_holdsRoot_45 rfl (by decide) rfl ?_
  refine g_iinc (v := x3 + 1) (L' := [(3, vI (x3 + 1)), (2, vI y0), (0, vR x0), (1, vI x1)]) C dX3_holdsRoot_46 3 rfl rfl (by decide) rfl ?_
  refine g_goto (tgt := 4) C dX3_holdsRoot_49 (by decide) ?_
  refine g_sub [2, 3, 1, 0] rfl ?_
  exact h4 _ _ _ _ _ hd
theorem w_X3_holdsRoot_b40 {K : KT} {r : Int32} {S1 : St} (C : GC K RX3 cX3_holdsRoot 4 3 []) (E : EH (kΓ K) (kHI K) (kl K)) (Q : GQ K (some (Jvm.ClassFile.FieldType.boolean)) (.inl (some (vI r))) S1) {k4 : St → Option Nat → Int32 → Int32 → Int32 → Option (Int32 × St)} (h4 : ∀ (S : St) (x0 : Option Nat) (x1 : Int32) (x2 : Int32) (x3 : Int32), k4 S x0 x1 x2 x3 = some (r, S1) → G K 4 S 4 [(0, vR x0), (1, vI x1), (2, vI x2), (3, vI x3)] []) : ∀ (S : St) (x0 : Option Nat) (x1 : Int32) (x3 : Int32), n_X3_holdsRoot_b40 k4 S x0 x1 x3 = some (r, S1) → G K 4 S 40 [(0, vR x0), (1, vI x1), (3, vI x3)] [] := by
  intro S x0 x1 x3 hd
  unfold n_X3_holdsRoot_b40 at hd
  refine g_iconst (v := 1) C dX3_holdsRoot_40 (by decide) ?_
  refine g_goto (tgt := 45) C dX3_holdsRoot_41 (by decide) ?_
  refine g_sub [0, 1, 2] rfl ?_
  exact w_X3_holdsRoot_b45 C E Q h4 _ _ _ _ _ hd
theorem w_X3_holdsRoot_b4 {K : KT} {r : Int32} {S1 : St} (C : GC K RX3 cX3_holdsRoot 4 3 []) (E : EH (kΓ K) (kHI K) (kl K)) (Q : GQ K (some (Jvm.ClassFile.FieldType.boolean)) (.inl (some (vI r))) S1) : ∀ (n : Nat) (S : St) (x0 : Option Nat) (x1 : Int32) (x2 : Int32) (x3 : Int32), n_X3_holdsRoot_b4 n S x0 x1 x2 x3 = some (r, S1) → G K 4 S 4 [(0, vR x0), (1, vI x1), (2, vI x2), (3, vI x3)] [] := by
  intro n
  induction n with
  | zero => intro S x0 x1 x2 x3 hd; cases hd
  | succ n ih =>
    intro S x0 x1 x2 x3 hd
    unfold n_X3_holdsRoot_b4 at hd
    refine g_iload_n C dX3_holdsRoot_4 rfl 3 rfl ?_
    refine g_aload_n C dX3_holdsRoot_5 rfl 0 rfl ?_
    obtain ⟨v1, hv1, hd⟩ := Option.bind_eq_some_iff.mp hd
    refine g_fld C gk_X3 (k := 12) (by decide) q1978 (Or.inl rfl) dX3_holdsRoot_6 (gI_v hv1) ?_
    refine g_icmp_ge (tgt := 52) C dX3_holdsRoot_9 (by decide) hd (fun hd => ?_) (fun hd => ?_)
    · refine g_iload_n C dX3_holdsRoot_52 rfl 2 rfl ?_
      exact g_iret C Q hd dX3_holdsRoot_53
    · refine g_iload_n C dX3_holdsRoot_12 rfl 2 rfl ?_
      refine g_if_ne (tgt := 40) C dX3_holdsRoot_13 (by decide) hd (fun hd => ?_) (fun hd => ?_)
      · refine g_sub [0, 1, 3] rfl ?_
        exact w_X3_holdsRoot_b40 C E Q ih _ _ _ _ hd
      · refine g_aload_n C dX3_holdsRoot_16 rfl 0 rfl ?_
        obtain ⟨v2, hv2, hd⟩ := Option.bind_eq_some_iff.mp hd
        refine g_fld C gk_X3 (k := 13) (by decide) q1979 (Or.inl rfl) dX3_holdsRoot_17 (gR_v hv2) ?_
        refine g_iload_n C dX3_holdsRoot_20 rfl 3 rfl ?_
        obtain ⟨v3, hv3, hd⟩ := Option.bind_eq_some_iff.mp hd
        refine g_ialdV C dX3_holdsRoot_21 hv3 ?_
        refine g_iload_n C dX3_holdsRoot_22 rfl 1 rfl ?_
        refine g_icmp_eq (tgt := 40) C dX3_holdsRoot_23 (by decide) hd (fun hd => ?_) (fun hd => ?_)
        · refine g_sub [0, 1, 3] rfl ?_
          exact w_X3_holdsRoot_b40 C E Q ih _ _ _ _ hd
        · refine g_aload_n C dX3_holdsRoot_26 rfl 0 rfl ?_
          refine g_aload_n C dX3_holdsRoot_27 rfl 0 rfl ?_
          obtain ⟨v4, hv4, hd⟩ := Option.bind_eq_some_iff.mp hd
          refine g_fld C gk_X3 (k := 13) (by decide) q1979 (Or.inl rfl) dX3_holdsRoot_28 (gR_v hv4) ?_
          refine g_iload_n C dX3_holdsRoot_31 rfl 3 rfl ?_
          obtain ⟨v5, hv5, hd⟩ := Option.bind_eq_some_iff.mp hd
          refine g_ialdV C dX3_holdsRoot_32 hv5 ?_
          refine g_iload_n C dX3_holdsRoot_33 rfl 1 rfl ?_
          obtain ⟨hg, hd⟩ := gd_some hd
          obtain ⟨v7, S6, hc, hd⟩ := bn_some hd
          refine g_cV_v (n := 2) C (gk_X3).1 q2139 q2141 qs56 q108 q2142 (by decide +kernel) (by decide) (by decide) dX3_holdsRoot_34 (As := [vI v5, vI x1]) (rest := []) rfl rfl (Nat.le_of_ble_eq_true rfl) hg (m_X3_isBelow E hc) ?_
          refine g_if_eq (tgt := 44) C dX3_holdsRoot_37 (by decide) hd (fun hd => ?_) (fun hd => ?_)
          · refine g_iconst (v := 0) C dX3_holdsRoot_44 (by decide) ?_
            refine g_sub [0, 1, 3] rfl ?_
            exact w_X3_holdsRoot_b45 C E Q ih _ _ _ _ _ hd
          · refine g_sub [0, 1, 3] rfl ?_
            exact w_X3_holdsRoot_b40 C E Q ih _ _ _ _ hd
theorem w_X3_holdsRoot_b0m {K : KT} {r : Int32} {S1 : St} (C : GC K RX3 cX3_holdsRoot 4 3 []) (E : EH (kΓ K) (kHI K) (kl K)) (Q : GQ K (some (Jvm.ClassFile.FieldType.boolean)) (.inl (some (vI r))) S1) : ∀ (S : St) (x0 : Option Nat) (x1 : Int32), n_X3_holdsRoot S x0 x1 = some (r, S1) → G K 4 S 0 [(0, vR x0), (1, vI x1)] [] := by
  intro S x0 x1 hd
  unfold n_X3_holdsRoot at hd
  refine g_iconst (v := 0) C dX3_holdsRoot_0 (by decide) ?_
  refine g_istore_n (L' := [(2, vI (0 : Int32)), (0, vR x0), (1, vI x1)]) C dX3_holdsRoot_1 rfl (by decide) rfl ?_
  refine g_iconst (v := 0) C dX3_holdsRoot_2 (by decide) ?_
  refine g_istore_n (L' := [(3, vI (0 : Int32)), (2, vI (0 : Int32)), (0, vR x0), (1, vI x1)]) C dX3_holdsRoot_3 rfl (by decide) rfl ?_
  refine g_sub [2, 3, 1, 0] rfl ?_
  exact w_X3_holdsRoot_b4 C E Q FU _ _ _ _ _ hd
theorem m_X3_holdsRoot {Γ : GG} {HI : St → Heap → Prop} {l : Launch} (E : EH Γ HI l) {S : St} {a0 : Option Nat} {a1 : Int32} {r : Int32} {S1 : St} (h : n_X3_holdsRoot S a0 a1 = some (r, S1)) : MS Γ HI l yX3_holdsRoot cX3_holdsRoot 4 (some (Jvm.ClassFile.FieldType.boolean)) 3 S [vR a0, vI a1] (.inl (some (vI r))) S1 := by
  refine MS_of E.ntr E.hx (by decide +kernel) rfl (Nat.le_of_ble_eq_true rfl) fun K e1 e2 e3 e4 hnm C Q => ?_
  subst e1; subst e2; subst e3
  exact w_X3_holdsRoot_b0m C E Q S a0 a1 h

def n_X3_rootAt_b27 (k4 : St → Option Nat → Int32 → Int32 → Int32 → Option (Int32 × St)) (S : St) (x0 : Option Nat) (x1 : Int32) (x3 : Int32) (y0 : Int32) : Option (Int32 × St) :=
  k4 S x0 x1 y0 (x3 + 1)
def n_X3_rootAt_b4 : Nat → St → Option Nat → Int32 → Int32 → Int32 → Option (Int32 × St)
  | 0 => fun _ _ _ _ _ => none
  | n + 1 => fun S x0 x1 x2 x3 =>
    (gI S x0 15 12).bind fun v1 =>
    if v1 ≤ x3 then
      rtI id (Jvm.ClassFile.FieldType.int) x2 S
    else
      (gR S x0 15 13).bind fun v2 =>
      (aI S v2 0 x3).bind fun v3 =>
      if v3 = x1 then
        n_X3_rootAt_b27 (n_X3_rootAt_b4 n) S x0 x1 x3 x3
      else
        n_X3_rootAt_b27 (n_X3_rootAt_b4 n) S x0 x1 x3 x2
def n_X3_rootAt (S : St) (x0 : Option Nat) (x1 : Int32) : Option (Int32 × St) :=
  n_X3_rootAt_b4 FU S x0 x1 (-1 : Int32) (0 : Int32)
theorem w_X3_rootAt_b27 {K : KT} {r : Int32} {S1 : St} (C : GC K RX3 cX3_rootAt 4 2 []) (E : EH (kΓ K) (kHI K) (kl K)) (Q : GQ K (some (Jvm.ClassFile.FieldType.int)) (.inl (some (vI r))) S1) {k4 : St → Option Nat → Int32 → Int32 → Int32 → Option (Int32 × St)} (h4 : ∀ (S : St) (x0 : Option Nat) (x1 : Int32) (x2 : Int32) (x3 : Int32), k4 S x0 x1 x2 x3 = some (r, S1) → G K 4 S 4 [(0, vR x0), (1, vI x1), (2, vI x2), (3, vI x3)] []) : ∀ (S : St) (x0 : Option Nat) (x1 : Int32) (x3 : Int32) (y0 : Int32), n_X3_rootAt_b27 k4 S x0 x1 x3 y0 = some (r, S1) → G K 4 S 27 [(0, vR x0), (1, vI x1), (3, vI x3)] [vI y0] := by
  intro S x0 x1 x3 y0 hd
  unfold n_X3_rootAt_b27 at hd
  refine g_istore_n (L' := [(2, vI y0), (0, vR x0), (1, vI x1), (3, vI x3)]) C dX3_rootAt_27 rfl (by decide) rfl ?_
  refine g_iinc (v := x3 + 1) (L' := [(3, vI (x3 + 1)), (2, vI y0), (0, vR x0), (1, vI x1)]) C dX3_rootAt_28 3 rfl rfl (by decide) rfl ?_
  refine g_goto (tgt := 4) C dX3_rootAt_31 (by decide) ?_
  refine g_sub [2, 3, 1, 0] rfl ?_
  exact h4 _ _ _ _ _ hd
theorem w_X3_rootAt_b4 {K : KT} {r : Int32} {S1 : St} (C : GC K RX3 cX3_rootAt 4 2 []) (E : EH (kΓ K) (kHI K) (kl K)) (Q : GQ K (some (Jvm.ClassFile.FieldType.int)) (.inl (some (vI r))) S1) : ∀ (n : Nat) (S : St) (x0 : Option Nat) (x1 : Int32) (x2 : Int32) (x3 : Int32), n_X3_rootAt_b4 n S x0 x1 x2 x3 = some (r, S1) → G K 4 S 4 [(0, vR x0), (1, vI x1), (2, vI x2), (3, vI x3)] [] := by
  intro n
  induction n with
  | zero => intro S x0 x1 x2 x3 hd; cases hd
  | succ n ih =>
    intro S x0 x1 x2 x3 hd
    unfold n_X3_rootAt_b4 at hd
    refine g_iload_n C dX3_rootAt_4 rfl 3 rfl ?_
    refine g_aload_n C dX3_rootAt_5 rfl 0 rfl ?_
    obtain ⟨v1, hv1, hd⟩ := Option.bind_eq_some_iff.mp hd
    refine g_fld C gk_X3 (k := 12) (by decide) q1978 (Or.inl rfl) dX3_rootAt_6 (gI_v hv1) ?_
    refine g_icmp_ge (tgt := 34) C dX3_rootAt_9 (by decide) hd (fun hd => ?_) (fun hd => ?_)
    · refine g_iload_n C dX3_rootAt_34 rfl 2 rfl ?_
      exact g_iret C Q hd dX3_rootAt_35
    · refine g_aload_n C dX3_rootAt_12 rfl 0 rfl ?_
      obtain ⟨v2, hv2, hd⟩ := Option.bind_eq_some_iff.mp hd
      refine g_fld C gk_X3 (k := 13) (by decide) q1979 (Or.inl rfl) dX3_rootAt_13 (gR_v hv2) ?_
      refine g_iload_n C dX3_rootAt_16 rfl 3 rfl ?_
      obtain ⟨v3, hv3, hd⟩ := Option.bind_eq_some_iff.mp hd
      refine g_ialdV C dX3_rootAt_17 hv3 ?_
      refine g_iload_n C dX3_rootAt_18 rfl 1 rfl ?_
      refine g_icmp_ne (tgt := 26) C dX3_rootAt_19 (by decide) hd (fun hd => ?_) (fun hd => ?_)
      · refine g_iload_n C dX3_rootAt_26 rfl 2 rfl ?_
        refine g_sub [0, 1, 3] rfl ?_
        exact w_X3_rootAt_b27 C E Q ih _ _ _ _ _ hd
      · refine g_iload_n C dX3_rootAt_22 rfl 3 rfl ?_
        refine g_goto (tgt := 27) C dX3_rootAt_23 (by decide) ?_
        refine g_sub [0, 1, 3] rfl ?_
        exact w_X3_rootAt_b27 C E Q ih _ _ _ _ _ hd
theorem w_X3_rootAt_b0m {K : KT} {r : Int32} {S1 : St} (C : GC K RX3 cX3_rootAt 4 2 []) (E : EH (kΓ K) (kHI K) (kl K)) (Q : GQ K (some (Jvm.ClassFile.FieldType.int)) (.inl (some (vI r))) S1) : ∀ (S : St) (x0 : Option Nat) (x1 : Int32), n_X3_rootAt S x0 x1 = some (r, S1) → G K 4 S 0 [(0, vR x0), (1, vI x1)] [] := by
  intro S x0 x1 hd
  unfold n_X3_rootAt at hd
  refine g_iconst (v := (-1)) C dX3_rootAt_0 (by decide) ?_
  refine g_istore_n (L' := [(2, vI (-1 : Int32)), (0, vR x0), (1, vI x1)]) C dX3_rootAt_1 rfl (by decide) rfl ?_
  refine g_iconst (v := 0) C dX3_rootAt_2 (by decide) ?_
  refine g_istore_n (L' := [(3, vI (0 : Int32)), (2, vI (-1 : Int32)), (0, vR x0), (1, vI x1)]) C dX3_rootAt_3 rfl (by decide) rfl ?_
  refine g_sub [2, 3, 1, 0] rfl ?_
  exact w_X3_rootAt_b4 C E Q FU _ _ _ _ _ hd
theorem m_X3_rootAt {Γ : GG} {HI : St → Heap → Prop} {l : Launch} (E : EH Γ HI l) {S : St} {a0 : Option Nat} {a1 : Int32} {r : Int32} {S1 : St} (h : n_X3_rootAt S a0 a1 = some (r, S1)) : MS Γ HI l yX3_rootAt cX3_rootAt 4 (some (Jvm.ClassFile.FieldType.int)) 2 S [vR a0, vI a1] (.inl (some (vI r))) S1 := by
  refine MS_of E.ntr E.hx (by decide +kernel) rfl (Nat.le_of_ble_eq_true rfl) fun K e1 e2 e3 e4 hnm C Q => ?_
  subst e1; subst e2; subst e3
  exact w_X3_rootAt_b0m C E Q S a0 a1 h

def n_X3_move_b20 (S : St) (x0 : Option Nat) : Option (Int32 × St) :=
  gd (grc S x0 15) <|
  bn (n_X3_fails S x0 (1 : Int32)) fun v2 S1 =>
  rtI id (Jvm.ClassFile.FieldType.int) v2 S1
def n_X3_move_b184 (S : St) (x0 : Option Nat) (x1 : Int32) (x6 : Int32) (x8 : Int32) : Option (Int32 × St) :=
  gd (grc S x0 15) <|
  bn (n_X3_comes S x0 x8 (0 : Int32) x1) fun _ S1 =>
  rtI id (Jvm.ClassFile.FieldType.int) x6 S1
def n_X3_move_b121 (S : St) (x0 : Option Nat) (x1 : Int32) (x2 : Int32) (x3 : Int32) (y0 : Int32) (y1 : Option Nat) : Option (Int32 × St) :=
  (pI .int S y1 15 0 y0).bind fun S1 =>
  (gI S1 x0 15 0).bind fun v2 =>
  if v2 ≤ 0 then
    (gR S1 x0 15 5).bind fun v3 =>
    (aI S1 v3 0 x1).bind fun v4 =>
    gd (grc S1 x0 15) <|
    bn (n_X3_over S1 x0 x1) fun v6 S5 =>
    (gR S5 x0 15 5).bind fun v7 =>
    (sI S5 v7 0 x1 x2).bind fun S8 =>
    (gR S8 x0 15 6).bind fun v9 =>
    (sI S8 v9 2 x1 x3).bind fun S10 =>
    gd (grc S10 x0 15) <|
    bn (n_X3_over S10 x0 x1) fun v12 S11 =>
    if v6 = v12 then
      n_X3_move_b184 S11 x0 x1 v4 v12
    else
      gd (grc S11 x0 15) <|
      bn (n_X3_comes S11 x0 v6 (2 : Int32) x1) fun _ S13 =>
      n_X3_move_b184 S13 x0 x1 v4 v12
  else
    rtI id (Jvm.ClassFile.FieldType.int) (0 : Int32) S1
def n_X3_move_b116 (S : St) (x0 : Option Nat) (x1 : Int32) (x2 : Int32) (x3 : Int32) (y0 : Option Nat) : Option (Int32 × St) :=
  n_X3_move_b121 S x0 x1 x2 x3 (3 : Int32) y0
def n_X3_move_b78 (S : St) (x0 : Option Nat) (x1 : Int32) (x2 : Int32) (x3 : Int32) (x4 : Int32) (y0 : Int32) : Option (Int32 × St) :=
  bn (n_X3_in S x3 (97 : Int32) (122 : Int32)) fun v2 S1 =>
  if v2 = 0 then
    n_X3_move_b121 S1 x0 x1 x2 x3 (2 : Int32) x0
  else
    if x4 = 0 then
      gd (grc S1 x0 15) <|
      bn (n_X3_isTaken S1 x0 x2 x3 x1) fun v4 S3 =>
      if v4 = 0 then
        if y0 = 0 then
          n_X3_move_b121 S3 x0 x1 x2 x3 (0 : Int32) x0
        else
          n_X3_move_b116 S3 x0 x1 x2 x3 x0
      else
        n_X3_move_b116 S3 x0 x1 x2 x3 x0
    else
      n_X3_move_b116 S1 x0 x1 x2 x3 x0
def n_X3_move_b73 (S : St) (x0 : Option Nat) (x1 : Int32) (x2 : Int32) (x3 : Int32) (x4 : Int32) : Option (Int32 × St) :=
  n_X3_move_b78 S x0 x1 x2 x3 x4 (1 : Int32)
def n_X3_move_b77 (S : St) (x0 : Option Nat) (x1 : Int32) (x2 : Int32) (x3 : Int32) (x4 : Int32) : Option (Int32 × St) :=
  n_X3_move_b78 S x0 x1 x2 x3 x4 (0 : Int32)
def n_X3_move_b45 (S : St) (x0 : Option Nat) (x1 : Int32) (x2 : Int32) (x3 : Int32) (y0 : Int32) : Option (Int32 × St) :=
  gd (grc S x0 15) <|
  bn (n_X3_holdsRoot S x0 x1) fun v2 S1 =>
  if v2 = 0 then
    n_X3_move_b77 S1 x0 x1 x2 x3 y0
  else
    gd (grc S1 x0 15) <|
    bn (n_X3_rootAt S1 x0 x2) fun v4 S3 =>
    if v4 = (-1 : Int32) then
      gd (grc S3 x0 15) <|
      bn (n_X3_over S3 x0 x2) fun v6 S5 =>
      if v6 = (-1 : Int32) then
        n_X3_move_b77 S5 x0 x1 x2 x3 y0
      else
        n_X3_move_b73 S5 x0 x1 x2 x3 y0
    else
      n_X3_move_b73 S3 x0 x1 x2 x3 y0
def n_X3_move_b40 (S : St) (x0 : Option Nat) (x1 : Int32) (x2 : Int32) (x3 : Int32) : Option (Int32 × St) :=
  n_X3_move_b45 S x0 x1 x2 x3 (1 : Int32)
def n_X3_move (S : St) (x0 : Option Nat) (x1 : Int32) (x2 : Int32) (x3 : Int32) : Option (Int32 × St) :=
  gd (grc S x0 15) <|
  bn (n_X3_isNode S x0 x1) fun v2 S1 =>
  if v2 = 0 then
    n_X3_move_b20 S1 x0
  else
    if x1 = 0 then
      n_X3_move_b20 S1 x0
    else
      gd (grc S1 x0 15) <|
      bn (n_X3_isFolderAt S1 x0 x2) fun v4 S3 =>
      if v4 = 0 then
        n_X3_move_b20 S3 x0
      else
        if x2 = x1 then
          n_X3_move_b40 S3 x0 x1 x2 x3
        else
          gd (grc S3 x0 15) <|
          bn (n_X3_isBelow S3 x0 x2 x1) fun v6 S5 =>
          if v6 = 0 then
            n_X3_move_b45 S5 x0 x1 x2 x3 (0 : Int32)
          else
            n_X3_move_b40 S5 x0 x1 x2 x3
theorem w_X3_move_b20 {K : KT} {r : Int32} {S1 : St} (C : GC K RX3 cX3_move 9 5 []) (E : EH (kΓ K) (kHI K) (kl K)) (Q : GQ K (some (Jvm.ClassFile.FieldType.int)) (.inl (some (vI r))) S1) : ∀ (S : St) (x0 : Option Nat), n_X3_move_b20 S x0 = some (r, S1) → G K 9 S 20 [(0, vR x0)] [] := by
  intro S x0 hd
  unfold n_X3_move_b20 at hd
  refine g_aload_n C dX3_move_20 rfl 0 rfl ?_
  refine g_iconst (v := 1) C dX3_move_21 (by decide) ?_
  obtain ⟨hg, hd⟩ := gd_some hd
  obtain ⟨v2, S1, hc, hd⟩ := bn_some hd
  refine g_cV_v (n := 1) C (gk_X3).1 q2127 q2129 qs53 q108 q2130 (by decide +kernel) (by decide) (by decide) dX3_move_22 (As := [vI (1 : Int32)]) (rest := []) rfl rfl (Nat.le_of_ble_eq_true rfl) hg (m_X3_fails E hc) ?_
  exact g_iret C Q hd dX3_move_25
theorem w_X3_move_b184 {K : KT} {r : Int32} {S1 : St} (C : GC K RX3 cX3_move 9 5 []) (E : EH (kΓ K) (kHI K) (kl K)) (Q : GQ K (some (Jvm.ClassFile.FieldType.int)) (.inl (some (vI r))) S1) : ∀ (S : St) (x0 : Option Nat) (x1 : Int32) (x6 : Int32) (x8 : Int32), n_X3_move_b184 S x0 x1 x6 x8 = some (r, S1) → G K 9 S 184 [(0, vR x0), (1, vI x1), (6, vI x6), (8, vI x8)] [] := by
  intro S x0 x1 x6 x8 hd
  unfold n_X3_move_b184 at hd
  refine g_aload_n C dX3_move_184 rfl 0 rfl ?_
  refine g_iload C dX3_move_185 3 rfl ?_
  refine g_iconst (v := 0) C dX3_move_187 (by decide) ?_
  refine g_iload_n C dX3_move_188 rfl 1 rfl ?_
  obtain ⟨hg, hd⟩ := gd_some hd
  obtain ⟨_, S1, hc, hd⟩ := bn_some hd
  refine g_cV_n (n := 3) C (gk_X3).1 q2143 q2145 qs57 q108 q2146 (by decide +kernel) (by decide) (by decide) dX3_move_189 (As := [vI x8, vI (0 : Int32), vI x1]) (rest := []) rfl rfl (Nat.le_of_ble_eq_true rfl) hg (m_X3_comes E hc) ?_
  refine g_iload C dX3_move_192 2 rfl ?_
  exact g_iret C Q hd dX3_move_194
theorem w_X3_move_b121 {K : KT} {r : Int32} {S1 : St} (C : GC K RX3 cX3_move 9 5 []) (E : EH (kΓ K) (kHI K) (kl K)) (Q : GQ K (some (Jvm.ClassFile.FieldType.int)) (.inl (some (vI r))) S1) : ∀ (S : St) (x0 : Option Nat) (x1 : Int32) (x2 : Int32) (x3 : Int32) (y0 : Int32) (y1 : Option Nat), n_X3_move_b121 S x0 x1 x2 x3 y0 y1 = some (r, S1) → G K 9 S 121 [(0, vR x0), (1, vI x1), (2, vI x2), (3, vI x3)] [vI y0, vR y1] := by
  intro S x0 x1 x2 x3 y0 y1 hd
  unfold n_X3_move_b121 at hd
  obtain ⟨S1, hS1, hd⟩ := Option.bind_eq_some_iff.mp hd
  refine g_put C gk_X3 (k := 0) (by decide) q1966 (Or.inl rfl) rfl dX3_move_121 (gfit_ok (pI_v hS1).1).1 (gfit_ok (pI_v hS1).1).2 (pI_v hS1).2 ?_
  refine g_aload_n C dX3_move_124 rfl 0 rfl ?_
  obtain ⟨v2, hv2, hd⟩ := Option.bind_eq_some_iff.mp hd
  refine g_fld C gk_X3 (k := 0) (by decide) q1966 (Or.inl rfl) dX3_move_125 (gI_v hv2) ?_
  refine g_if_le (tgt := 133) C dX3_move_128 (by decide) hd (fun hd => ?_) (fun hd => ?_)
  · refine g_aload_n C dX3_move_133 rfl 0 rfl ?_
    obtain ⟨v3, hv3, hd⟩ := Option.bind_eq_some_iff.mp hd
    refine g_fld C gk_X3 (k := 5) (by decide) q1971 (Or.inl rfl) dX3_move_134 (gR_v hv3) ?_
    refine g_iload_n C dX3_move_137 rfl 1 rfl ?_
    obtain ⟨v4, hv4, hd⟩ := Option.bind_eq_some_iff.mp hd
    refine g_ialdV C dX3_move_138 hv4 ?_
    refine g_istore (L' := [(6, vI v4), (0, vR x0), (1, vI x1), (2, vI x2), (3, vI x3)]) C dX3_move_139 (by decide) rfl ?_
    refine g_aload_n C dX3_move_141 rfl 1 rfl ?_
    refine g_iload_n C dX3_move_142 rfl 2 rfl ?_
    obtain ⟨hg, hd⟩ := gd_some hd
    obtain ⟨v6, S5, hc, hd⟩ := bn_some hd
    refine g_cV_v (n := 1) C (gk_X3).1 q2135 q2137 qs55 q108 q2138 (by decide +kernel) (by decide) (by decide) dX3_move_143 (As := [vI x1]) (rest := []) rfl rfl (Nat.le_of_ble_eq_true rfl) hg (m_X3_over E hc) ?_
    refine g_istore (L' := [(7, vI v6), (6, vI v4), (0, vR x0), (1, vI x1), (2, vI x2), (3, vI x3)]) C dX3_move_146 (by decide) rfl ?_
    refine g_aload_n C dX3_move_148 rfl 2 rfl ?_
    obtain ⟨v7, hv7, hd⟩ := Option.bind_eq_some_iff.mp hd
    refine g_fld C gk_X3 (k := 5) (by decide) q1971 (Or.inl rfl) dX3_move_149 (gR_v hv7) ?_
    refine g_iload_n C dX3_move_152 rfl 3 rfl ?_
    refine g_iload_n C dX3_move_153 rfl 4 rfl ?_
    obtain ⟨S8, hS8, hd⟩ := Option.bind_eq_some_iff.mp hd
    refine g_iastV C dX3_move_154 hS8 ?_
    refine g_aload_n C dX3_move_155 rfl 2 rfl ?_
    obtain ⟨v9, hv9, hd⟩ := Option.bind_eq_some_iff.mp hd
    refine g_fld C gk_X3 (k := 6) (by decide) q1972 (Or.inl rfl) dX3_move_156 (gR_v hv9) ?_
    refine g_iload_n C dX3_move_159 rfl 3 rfl ?_
    refine g_iload_n C dX3_move_160 rfl 5 rfl ?_
    obtain ⟨S10, hS10, hd⟩ := Option.bind_eq_some_iff.mp hd
    refine g_castV C dX3_move_161 hS10 ?_
    refine g_aload_n C dX3_move_162 rfl 2 rfl ?_
    refine g_iload_n C dX3_move_163 rfl 3 rfl ?_
    obtain ⟨hg, hd⟩ := gd_some hd
    obtain ⟨v12, S11, hc, hd⟩ := bn_some hd
    refine g_cV_v (n := 1) C (gk_X3).1 q2135 q2137 qs55 q108 q2138 (by decide +kernel) (by decide) (by decide) dX3_move_164 (As := [vI x1]) (rest := []) rfl rfl (Nat.le_of_ble_eq_true rfl) hg (m_X3_over E hc) ?_
    refine g_istore (L' := [(8, vI v12), (7, vI v6), (6, vI v4), (0, vR x0), (1, vI x1), (2, vI x2), (3, vI x3)]) C dX3_move_167 (by decide) rfl ?_
    refine g_iload C dX3_move_169 1 rfl ?_
    refine g_iload C dX3_move_171 0 rfl ?_
    refine g_icmp_eq (tgt := 184) C dX3_move_173 (by decide) hd (fun hd => ?_) (fun hd => ?_)
    · refine g_sub [3, 4, 2, 0] rfl ?_
      exact w_X3_move_b184 C E Q _ _ _ _ _ hd
    · refine g_aload_n C dX3_move_176 rfl 3 rfl ?_
      refine g_iload C dX3_move_177 1 rfl ?_
      refine g_iconst (v := 2) C dX3_move_179 (by decide) ?_
      refine g_iload_n C dX3_move_180 rfl 4 rfl ?_
      obtain ⟨hg, hd⟩ := gd_some hd
      obtain ⟨_, S13, hc, hd⟩ := bn_some hd
      refine g_cV_n (n := 3) C (gk_X3).1 q2143 q2145 qs57 q108 q2146 (by decide +kernel) (by decide) (by decide) dX3_move_181 (As := [vI v6, vI (2 : Int32), vI x1]) (rest := []) rfl rfl (Nat.le_of_ble_eq_true rfl) hg (m_X3_comes E hc) ?_
      refine g_sub [3, 4, 2, 0] rfl ?_
      exact w_X3_move_b184 C E Q _ _ _ _ _ hd
  · refine g_iconst (v := 0) C dX3_move_131 (by decide) ?_
    exact g_iret C Q hd dX3_move_132
theorem w_X3_move_b116 {K : KT} {r : Int32} {S1 : St} (C : GC K RX3 cX3_move 9 5 []) (E : EH (kΓ K) (kHI K) (kl K)) (Q : GQ K (some (Jvm.ClassFile.FieldType.int)) (.inl (some (vI r))) S1) : ∀ (S : St) (x0 : Option Nat) (x1 : Int32) (x2 : Int32) (x3 : Int32) (y0 : Option Nat), n_X3_move_b116 S x0 x1 x2 x3 y0 = some (r, S1) → G K 9 S 116 [(0, vR x0), (1, vI x1), (2, vI x2), (3, vI x3)] [vR y0] := by
  intro S x0 x1 x2 x3 y0 hd
  unfold n_X3_move_b116 at hd
  refine g_iconst (v := 3) C dX3_move_116 (by decide) ?_
  refine g_goto (tgt := 121) C dX3_move_117 (by decide) ?_
  refine g_sub [0, 1, 2, 3] rfl ?_
  exact w_X3_move_b121 C E Q _ _ _ _ _ _ _ hd
theorem w_X3_move_b78 {K : KT} {r : Int32} {S1 : St} (C : GC K RX3 cX3_move 9 5 []) (E : EH (kΓ K) (kHI K) (kl K)) (Q : GQ K (some (Jvm.ClassFile.FieldType.int)) (.inl (some (vI r))) S1) : ∀ (S : St) (x0 : Option Nat) (x1 : Int32) (x2 : Int32) (x3 : Int32) (x4 : Int32) (y0 : Int32), n_X3_move_b78 S x0 x1 x2 x3 x4 y0 = some (r, S1) → G K 9 S 78 [(0, vR x0), (1, vI x1), (2, vI x2), (3, vI x3), (4, vI x4)] [vI y0] := by
  intro S x0 x1 x2 x3 x4 y0 hd
  unfold n_X3_move_b78 at hd
  refine g_istore (L' := [(5, vI y0), (0, vR x0), (1, vI x1), (2, vI x2), (3, vI x3), (4, vI x4)]) C dX3_move_78 (by decide) rfl ?_
  refine g_aload_n C dX3_move_80 rfl 1 rfl ?_
  refine g_iload_n C dX3_move_81 rfl 4 rfl ?_
  refine g_bipush (v := 97) C dX3_move_82 (by decide) ?_
  refine g_bipush (v := 122) C dX3_move_84 (by decide) ?_
  obtain ⟨v2, S1, hc, hd⟩ := bn_some hd
  refine g_cS_v (n := 3) C q2124 q2125 q108 q2126 (by decide +kernel) (by decide) (by decide) dX3_move_86 (As := [vI x3, vI (97 : Int32), vI (122 : Int32)]) (rest := [vR x0]) rfl rfl (Nat.le_of_ble_eq_true rfl) (m_X3_in E hc) ?_
  refine g_if_ne (tgt := 96) C dX3_move_89 (by decide) hd (fun hd => ?_) (fun hd => ?_)
  · refine g_iload C dX3_move_96 5 rfl ?_
    refine g_if_ne (tgt := 116) C dX3_move_98 (by decide) hd (fun hd => ?_) (fun hd => ?_)
    · refine g_sub [1, 2, 3, 4] rfl ?_
      exact w_X3_move_b116 C E Q _ _ _ _ _ _ hd
    · refine g_aload_n C dX3_move_101 rfl 1 rfl ?_
      refine g_iload_n C dX3_move_102 rfl 3 rfl ?_
      refine g_iload_n C dX3_move_103 rfl 4 rfl ?_
      refine g_iload_n C dX3_move_104 rfl 2 rfl ?_
      obtain ⟨hg, hd⟩ := gd_some hd
      obtain ⟨v4, S3, hc, hd⟩ := bn_some hd
      refine g_cV_v (n := 3) C (gk_X3).1 q2131 q2133 qs54 q108 q2134 (by decide +kernel) (by decide) (by decide) dX3_move_105 (As := [vI x2, vI x3, vI x1]) (rest := [vR x0]) rfl rfl (Nat.le_of_ble_eq_true rfl) hg (m_X3_isTaken E hc) ?_
      refine g_if_ne (tgt := 116) C dX3_move_108 (by decide) hd (fun hd => ?_) (fun hd => ?_)
      · refine g_sub [1, 2, 3, 4] rfl ?_
        exact w_X3_move_b116 C E Q _ _ _ _ _ _ hd
      · refine g_iload C dX3_move_111 0 rfl ?_
        refine g_if_eq (tgt := 120) C dX3_move_113 (by decide) hd (fun hd => ?_) (fun hd => ?_)
        · refine g_iconst (v := 0) C dX3_move_120 (by decide) ?_
          refine g_sub [1, 2, 3, 4] rfl ?_
          exact w_X3_move_b121 C E Q _ _ _ _ _ _ _ hd
        · refine g_sub [1, 2, 3, 4] rfl ?_
          exact w_X3_move_b116 C E Q _ _ _ _ _ _ hd
  · refine g_iconst (v := 2) C dX3_move_92 (by decide) ?_
    refine g_goto (tgt := 121) C dX3_move_93 (by decide) ?_
    refine g_sub [1, 2, 3, 4] rfl ?_
    exact w_X3_move_b121 C E Q _ _ _ _ _ _ _ hd
theorem w_X3_move_b73 {K : KT} {r : Int32} {S1 : St} (C : GC K RX3 cX3_move 9 5 []) (E : EH (kΓ K) (kHI K) (kl K)) (Q : GQ K (some (Jvm.ClassFile.FieldType.int)) (.inl (some (vI r))) S1) : ∀ (S : St) (x0 : Option Nat) (x1 : Int32) (x2 : Int32) (x3 : Int32) (x4 : Int32), n_X3_move_b73 S x0 x1 x2 x3 x4 = some (r, S1) → G K 9 S 73 [(0, vR x0), (1, vI x1), (2, vI x2), (3, vI x3), (4, vI x4)] [] := by
  intro S x0 x1 x2 x3 x4 hd
  unfold n_X3_move_b73 at hd
  refine g_iconst (v := 1) C dX3_move_73 (by decide) ?_
  refine g_goto (tgt := 78) C dX3_move_74 (by decide) ?_
  refine g_sub [0, 1, 2, 3, 4] rfl ?_
  exact w_X3_move_b78 C E Q _ _ _ _ _ _ _ hd
theorem w_X3_move_b77 {K : KT} {r : Int32} {S1 : St} (C : GC K RX3 cX3_move 9 5 []) (E : EH (kΓ K) (kHI K) (kl K)) (Q : GQ K (some (Jvm.ClassFile.FieldType.int)) (.inl (some (vI r))) S1) : ∀ (S : St) (x0 : Option Nat) (x1 : Int32) (x2 : Int32) (x3 : Int32) (x4 : Int32), n_X3_move_b77 S x0 x1 x2 x3 x4 = some (r, S1) → G K 9 S 77 [(0, vR x0), (1, vI x1), (2, vI x2), (3, vI x3), (4, vI x4)] [] := by
  intro S x0 x1 x2 x3 x4 hd
  unfold n_X3_move_b77 at hd
  refine g_iconst (v := 0) C dX3_move_77 (by decide) ?_
  refine g_sub [0, 1, 2, 3, 4] rfl ?_
  exact w_X3_move_b78 C E Q _ _ _ _ _ _ _ hd
theorem w_X3_move_b45 {K : KT} {r : Int32} {S1 : St} (C : GC K RX3 cX3_move 9 5 []) (E : EH (kΓ K) (kHI K) (kl K)) (Q : GQ K (some (Jvm.ClassFile.FieldType.int)) (.inl (some (vI r))) S1) : ∀ (S : St) (x0 : Option Nat) (x1 : Int32) (x2 : Int32) (x3 : Int32) (y0 : Int32), n_X3_move_b45 S x0 x1 x2 x3 y0 = some (r, S1) → G K 9 S 45 [(0, vR x0), (1, vI x1), (2, vI x2), (3, vI x3)] [vI y0] := by
  intro S x0 x1 x2 x3 y0 hd
  unfold n_X3_move_b45 at hd
  refine g_istore (L' := [(4, vI y0), (0, vR x0), (1, vI x1), (2, vI x2), (3, vI x3)]) C dX3_move_45 (by decide) rfl ?_
  refine g_aload_n C dX3_move_47 rfl 1 rfl ?_
  refine g_iload_n C dX3_move_48 rfl 2 rfl ?_
  obtain ⟨hg, hd⟩ := gd_some hd
  obtain ⟨v2, S1, hc, hd⟩ := bn_some hd
  refine g_cV_v (n := 1) C (gk_X3).1 q2163 q2165 qs59 q108 q2166 (by decide +kernel) (by decide) (by decide) dX3_move_49 (As := [vI x1]) (rest := []) rfl rfl (Nat.le_of_ble_eq_true rfl) hg (m_X3_holdsRoot E hc) ?_
  refine g_if_eq (tgt := 77) C dX3_move_52 (by decide) hd (fun hd => ?_) (fun hd => ?_)
  · refine g_sub [1, 2, 3, 4, 0] rfl ?_
    exact w_X3_move_b77 C E Q _ _ _ _ _ _ hd
  · refine g_aload_n C dX3_move_55 rfl 1 rfl ?_
    refine g_iload_n C dX3_move_56 rfl 3 rfl ?_
    obtain ⟨hg, hd⟩ := gd_some hd
    obtain ⟨v4, S3, hc, hd⟩ := bn_some hd
    refine g_cV_v (n := 1) C (gk_X3).1 q2167 q2169 qs60 q108 q2170 (by decide +kernel) (by decide) (by decide) dX3_move_57 (As := [vI x2]) (rest := []) rfl rfl (Nat.le_of_ble_eq_true rfl) hg (m_X3_rootAt E hc) ?_
    refine g_iconst (v := (-1)) C dX3_move_60 (by decide) ?_
    refine g_icmp_ne (tgt := 73) C dX3_move_61 (by decide) hd (fun hd => ?_) (fun hd => ?_)
    · refine g_sub [1, 2, 3, 4, 0] rfl ?_
      exact w_X3_move_b73 C E Q _ _ _ _ _ _ hd
    · refine g_aload_n C dX3_move_64 rfl 1 rfl ?_
      refine g_iload_n C dX3_move_65 rfl 3 rfl ?_
      obtain ⟨hg, hd⟩ := gd_some hd
      obtain ⟨v6, S5, hc, hd⟩ := bn_some hd
      refine g_cV_v (n := 1) C (gk_X3).1 q2135 q2137 qs55 q108 q2138 (by decide +kernel) (by decide) (by decide) dX3_move_66 (As := [vI x2]) (rest := []) rfl rfl (Nat.le_of_ble_eq_true rfl) hg (m_X3_over E hc) ?_
      refine g_iconst (v := (-1)) C dX3_move_69 (by decide) ?_
      refine g_icmp_eq (tgt := 77) C dX3_move_70 (by decide) hd (fun hd => ?_) (fun hd => ?_)
      · refine g_sub [1, 2, 3, 4, 0] rfl ?_
        exact w_X3_move_b77 C E Q _ _ _ _ _ _ hd
      · refine g_sub [1, 2, 3, 4, 0] rfl ?_
        exact w_X3_move_b73 C E Q _ _ _ _ _ _ hd
theorem w_X3_move_b40 {K : KT} {r : Int32} {S1 : St} (C : GC K RX3 cX3_move 9 5 []) (E : EH (kΓ K) (kHI K) (kl K)) (Q : GQ K (some (Jvm.ClassFile.FieldType.int)) (.inl (some (vI r))) S1) : ∀ (S : St) (x0 : Option Nat) (x1 : Int32) (x2 : Int32) (x3 : Int32), n_X3_move_b40 S x0 x1 x2 x3 = some (r, S1) → G K 9 S 40 [(0, vR x0), (1, vI x1), (2, vI x2), (3, vI x3)] [] := by
  intro S x0 x1 x2 x3 hd
  unfold n_X3_move_b40 at hd
  refine g_iconst (v := 1) C dX3_move_40 (by decide) ?_
  refine g_goto (tgt := 45) C dX3_move_41 (by decide) ?_
  refine g_sub [0, 1, 2, 3] rfl ?_
  exact w_X3_move_b45 C E Q _ _ _ _ _ _ hd
theorem w_X3_move_b0m {K : KT} {r : Int32} {S1 : St} (C : GC K RX3 cX3_move 9 5 []) (E : EH (kΓ K) (kHI K) (kl K)) (Q : GQ K (some (Jvm.ClassFile.FieldType.int)) (.inl (some (vI r))) S1) : ∀ (S : St) (x0 : Option Nat) (x1 : Int32) (x2 : Int32) (x3 : Int32), n_X3_move S x0 x1 x2 x3 = some (r, S1) → G K 9 S 0 [(0, vR x0), (1, vI x1), (2, vI x2), (3, vI x3)] [] := by
  intro S x0 x1 x2 x3 hd
  unfold n_X3_move at hd
  refine g_aload_n C dX3_move_0 rfl 0 rfl ?_
  refine g_iload_n C dX3_move_1 rfl 1 rfl ?_
  obtain ⟨hg, hd⟩ := gd_some hd
  obtain ⟨v2, S1, hc, hd⟩ := bn_some hd
  refine g_cV_v (n := 1) C (gk_X3).1 q2120 q2122 qs52 q108 q2123 (by decide +kernel) (by decide) (by decide) dX3_move_2 (As := [vI x1]) (rest := []) rfl rfl (Nat.le_of_ble_eq_true rfl) hg (m_X3_isNode E hc) ?_
  refine g_if_eq (tgt := 20) C dX3_move_5 (by decide) hd (fun hd => ?_) (fun hd => ?_)
  · refine g_sub [0] rfl ?_
    exact w_X3_move_b20 C E Q _ _ hd
  · refine g_iload_n C dX3_move_8 rfl 1 rfl ?_
    refine g_if_eq (tgt := 20) C dX3_move_9 (by decide) hd (fun hd => ?_) (fun hd => ?_)
    · refine g_sub [0] rfl ?_
      exact w_X3_move_b20 C E Q _ _ hd
    · refine g_aload_n C dX3_move_12 rfl 0 rfl ?_
      refine g_iload_n C dX3_move_13 rfl 2 rfl ?_
      obtain ⟨hg, hd⟩ := gd_some hd
      obtain ⟨v4, S3, hc, hd⟩ := bn_some hd
      refine g_cV_v (n := 1) C (gk_X3).1 q2116 q2118 qs51 q108 q2119 (by decide +kernel) (by decide) (by decide) dX3_move_14 (As := [vI x2]) (rest := []) rfl rfl (Nat.le_of_ble_eq_true rfl) hg (m_X3_isFolderAt E hc) ?_
      refine g_if_ne (tgt := 26) C dX3_move_17 (by decide) hd (fun hd => ?_) (fun hd => ?_)
      · refine g_iload_n C dX3_move_26 rfl 2 rfl ?_
        refine g_iload_n C dX3_move_27 rfl 1 rfl ?_
        refine g_icmp_eq (tgt := 40) C dX3_move_28 (by decide) hd (fun hd => ?_) (fun hd => ?_)
        · refine g_sub [0, 1, 2, 3] rfl ?_
          exact w_X3_move_b40 C E Q _ _ _ _ _ hd
        · refine g_aload_n C dX3_move_31 rfl 0 rfl ?_
          refine g_iload_n C dX3_move_32 rfl 2 rfl ?_
          refine g_iload_n C dX3_move_33 rfl 1 rfl ?_
          obtain ⟨hg, hd⟩ := gd_some hd
          obtain ⟨v6, S5, hc, hd⟩ := bn_some hd
          refine g_cV_v (n := 2) C (gk_X3).1 q2139 q2141 qs56 q108 q2142 (by decide +kernel) (by decide) (by decide) dX3_move_34 (As := [vI x2, vI x1]) (rest := []) rfl rfl (Nat.le_of_ble_eq_true rfl) hg (m_X3_isBelow E hc) ?_
          refine g_if_eq (tgt := 44) C dX3_move_37 (by decide) hd (fun hd => ?_) (fun hd => ?_)
          · refine g_iconst (v := 0) C dX3_move_44 (by decide) ?_
            refine g_sub [0, 1, 2, 3] rfl ?_
            exact w_X3_move_b45 C E Q _ _ _ _ _ _ hd
          · refine g_sub [0, 1, 2, 3] rfl ?_
            exact w_X3_move_b40 C E Q _ _ _ _ _ hd
      · refine g_sub [0] rfl ?_
        exact w_X3_move_b20 C E Q _ _ hd
theorem m_X3_move {Γ : GG} {HI : St → Heap → Prop} {l : Launch} (E : EH Γ HI l) {S : St} {a0 : Option Nat} {a1 : Int32} {a2 : Int32} {a3 : Int32} {r : Int32} {S1 : St} (h : n_X3_move S a0 a1 a2 a3 = some (r, S1)) : MS Γ HI l yX3_move cX3_move 9 (some (Jvm.ClassFile.FieldType.int)) 5 S [vR a0, vI a1, vI a2, vI a3] (.inl (some (vI r))) S1 := by
  refine MS_of E.ntr E.hx (by decide +kernel) rfl (Nat.le_of_ble_eq_true rfl) fun K e1 e2 e3 e4 hnm C Q => ?_
  subst e1; subst e2; subst e3
  exact w_X3_move_b0m C E Q S a0 a1 a2 a3 h

def n_X3_adds_b31 (k5 : St → Option Nat → Int32 → Int32 → Int32 → Int32 → Option (Unit × St)) (S : St) (x0 : Option Nat) (x1 : Int32) (x2 : Int32) (x4 : Int32) (y0 : Int32) : Option (Unit × St) :=
  k5 S x0 x1 x2 y0 (x4 + 1)
def n_X3_adds_b72 (S : St) (x0 : Option Nat) (x2 : Int32) (x3 : Int32) : Option (Unit × St) :=
  (gR S x0 15 32).bind fun v1 =>
  (sI S v1 0 x3 x2).bind fun S2 =>
  some ((), S2)
def n_X3_adds_b5 : Nat → St → Option Nat → Int32 → Int32 → Int32 → Int32 → Option (Unit × St)
  | 0 => fun _ _ _ _ _ _ => none
  | n + 1 => fun S x0 x1 x2 x3 x4 =>
    (gI S x0 15 30).bind fun v1 =>
    if v1 ≤ x4 then
      if x3 = (-1 : Int32) then
        (gI S x0 15 30).bind fun v2 =>
        (gR S x0 15 31).bind fun v3 =>
        (sI S v3 0 v2 x1).bind fun S4 =>
        (gR S4 x0 15 33).bind fun v5 =>
        (sI S4 v5 1 v2 (0 : Int32)).bind fun S6 =>
        (gI S6 x0 15 30).bind fun v7 =>
        (pI .int S6 x0 15 30 (v7 + (1 : Int32))).bind fun S8 =>
        n_X3_adds_b72 S8 x0 x2 v2
      else
        n_X3_adds_b72 S x0 x2 x3
    else
      (gR S x0 15 31).bind fun v9 =>
      (aI S v9 0 x4).bind fun v10 =>
      if v10 = x1 then
        n_X3_adds_b31 (n_X3_adds_b5 n) S x0 x1 x2 x4 x4
      else
        n_X3_adds_b31 (n_X3_adds_b5 n) S x0 x1 x2 x4 x3
def n_X3_adds (S : St) (x0 : Option Nat) (x1 : Int32) (x2 : Int32) : Option (Unit × St) :=
  n_X3_adds_b5 FU S x0 x1 x2 (-1 : Int32) (0 : Int32)
theorem w_X3_adds_b31 {K : KT} {r : Unit} {S1 : St} (C : GC K RX3 cX3_adds 5 2 []) (E : EH (kΓ K) (kHI K) (kl K)) (Q : GQ K none (.inl none) S1) {k5 : St → Option Nat → Int32 → Int32 → Int32 → Int32 → Option (Unit × St)} (h5 : ∀ (S : St) (x0 : Option Nat) (x1 : Int32) (x2 : Int32) (x3 : Int32) (x4 : Int32), k5 S x0 x1 x2 x3 x4 = some (r, S1) → G K 5 S 5 [(0, vR x0), (1, vI x1), (2, vI x2), (3, vI x3), (4, vI x4)] []) : ∀ (S : St) (x0 : Option Nat) (x1 : Int32) (x2 : Int32) (x4 : Int32) (y0 : Int32), n_X3_adds_b31 k5 S x0 x1 x2 x4 y0 = some (r, S1) → G K 5 S 31 [(0, vR x0), (1, vI x1), (2, vI x2), (4, vI x4)] [vI y0] := by
  intro S x0 x1 x2 x4 y0 hd
  unfold n_X3_adds_b31 at hd
  refine g_istore_n (L' := [(3, vI y0), (0, vR x0), (1, vI x1), (2, vI x2), (4, vI x4)]) C dX3_adds_31 rfl (by decide) rfl ?_
  refine g_iinc (v := x4 + 1) (L' := [(4, vI (x4 + 1)), (3, vI y0), (0, vR x0), (1, vI x1), (2, vI x2)]) C dX3_adds_32 4 rfl rfl (by decide) rfl ?_
  refine g_goto (tgt := 5) C dX3_adds_35 (by decide) ?_
  refine g_sub [2, 3, 4, 1, 0] rfl ?_
  exact h5 _ _ _ _ _ _ hd
theorem w_X3_adds_b72 {K : KT} {r : Unit} {S1 : St} (C : GC K RX3 cX3_adds 5 2 []) (E : EH (kΓ K) (kHI K) (kl K)) (Q : GQ K none (.inl none) S1) : ∀ (S : St) (x0 : Option Nat) (x2 : Int32) (x3 : Int32), n_X3_adds_b72 S x0 x2 x3 = some (r, S1) → G K 5 S 72 [(0, vR x0), (2, vI x2), (3, vI x3)] [] := by
  intro S x0 x2 x3 hd
  unfold n_X3_adds_b72 at hd
  refine g_aload_n C dX3_adds_72 rfl 0 rfl ?_
  obtain ⟨v1, hv1, hd⟩ := Option.bind_eq_some_iff.mp hd
  refine g_fld C gk_X3 (k := 32) (by decide) q1998 (Or.inl rfl) dX3_adds_73 (gR_v hv1) ?_
  refine g_iload_n C dX3_adds_76 rfl 2 rfl ?_
  refine g_iload_n C dX3_adds_77 rfl 1 rfl ?_
  obtain ⟨S2, hS2, hd⟩ := Option.bind_eq_some_iff.mp hd
  refine g_iastV C dX3_adds_78 hS2 ?_
  exact g_vret C Q hd dX3_adds_79
theorem w_X3_adds_b5 {K : KT} {r : Unit} {S1 : St} (C : GC K RX3 cX3_adds 5 2 []) (E : EH (kΓ K) (kHI K) (kl K)) (Q : GQ K none (.inl none) S1) : ∀ (n : Nat) (S : St) (x0 : Option Nat) (x1 : Int32) (x2 : Int32) (x3 : Int32) (x4 : Int32), n_X3_adds_b5 n S x0 x1 x2 x3 x4 = some (r, S1) → G K 5 S 5 [(0, vR x0), (1, vI x1), (2, vI x2), (3, vI x3), (4, vI x4)] [] := by
  intro n
  induction n with
  | zero => intro S x0 x1 x2 x3 x4 hd; cases hd
  | succ n ih =>
    intro S x0 x1 x2 x3 x4 hd
    unfold n_X3_adds_b5 at hd
    refine g_iload C dX3_adds_5 4 rfl ?_
    refine g_aload_n C dX3_adds_7 rfl 0 rfl ?_
    obtain ⟨v1, hv1, hd⟩ := Option.bind_eq_some_iff.mp hd
    refine g_fld C gk_X3 (k := 30) (by decide) q1996 (Or.inl rfl) dX3_adds_8 (gI_v hv1) ?_
    refine g_icmp_ge (tgt := 38) C dX3_adds_11 (by decide) hd (fun hd => ?_) (fun hd => ?_)
    · refine g_iload_n C dX3_adds_38 rfl 3 rfl ?_
      refine g_iconst (v := (-1)) C dX3_adds_39 (by decide) ?_
      refine g_icmp_ne (tgt := 72) C dX3_adds_40 (by decide) hd (fun hd => ?_) (fun hd => ?_)
      · refine g_sub [0, 2, 3] rfl ?_
        exact w_X3_adds_b72 C E Q _ _ _ _ hd
      · refine g_aload_n C dX3_adds_43 rfl 0 rfl ?_
        obtain ⟨v2, hv2, hd⟩ := Option.bind_eq_some_iff.mp hd
        refine g_fld C gk_X3 (k := 30) (by decide) q1996 (Or.inl rfl) dX3_adds_44 (gI_v hv2) ?_
        refine g_istore_n (L' := [(3, vI v2), (0, vR x0), (1, vI x1), (2, vI x2), (4, vI x4)]) C dX3_adds_47 rfl (by decide) rfl ?_
        refine g_aload_n C dX3_adds_48 rfl 1 rfl ?_
        obtain ⟨v3, hv3, hd⟩ := Option.bind_eq_some_iff.mp hd
        refine g_fld C gk_X3 (k := 31) (by decide) q1997 (Or.inl rfl) dX3_adds_49 (gR_v hv3) ?_
        refine g_iload_n C dX3_adds_52 rfl 0 rfl ?_
        refine g_iload_n C dX3_adds_53 rfl 2 rfl ?_
        obtain ⟨S4, hS4, hd⟩ := Option.bind_eq_some_iff.mp hd
        refine g_iastV C dX3_adds_54 hS4 ?_
        refine g_aload_n C dX3_adds_55 rfl 1 rfl ?_
        obtain ⟨v5, hv5, hd⟩ := Option.bind_eq_some_iff.mp hd
        refine g_fld C gk_X3 (k := 33) (by decide) q1999 (Or.inl rfl) dX3_adds_56 (gR_v hv5) ?_
        refine g_iload_n C dX3_adds_59 rfl 0 rfl ?_
        refine g_iconst (v := 0) C dX3_adds_60 (by decide) ?_
        obtain ⟨S6, hS6, hd⟩ := Option.bind_eq_some_iff.mp hd
        refine g_zastV C dX3_adds_61 hS6 ?_
        refine g_aload_n C dX3_adds_62 rfl 1 rfl ?_
        refine g_dup C dX3_adds_63 rfl ?_
        obtain ⟨v7, hv7, hd⟩ := Option.bind_eq_some_iff.mp hd
        refine g_fld C gk_X3 (k := 30) (by decide) q1996 (Or.inl rfl) dX3_adds_64 (gI_v hv7) ?_
        refine g_iconst (v := 1) C dX3_adds_67 (by decide) ?_
        refine g_iadd C dX3_adds_68 ?_
        obtain ⟨S8, hS8, hd⟩ := Option.bind_eq_some_iff.mp hd
        refine g_put C gk_X3 (k := 30) (by decide) q1996 (Or.inl rfl) rfl dX3_adds_69 (gfit_ok (pI_v hS8).1).1 (gfit_ok (pI_v hS8).1).2 (pI_v hS8).2 ?_
        refine g_sub [1, 3, 0] rfl ?_
        exact w_X3_adds_b72 C E Q _ _ _ _ hd
    · refine g_aload_n C dX3_adds_14 rfl 0 rfl ?_
      obtain ⟨v9, hv9, hd⟩ := Option.bind_eq_some_iff.mp hd
      refine g_fld C gk_X3 (k := 31) (by decide) q1997 (Or.inl rfl) dX3_adds_15 (gR_v hv9) ?_
      refine g_iload C dX3_adds_18 4 rfl ?_
      obtain ⟨v10, hv10, hd⟩ := Option.bind_eq_some_iff.mp hd
      refine g_ialdV C dX3_adds_20 hv10 ?_
      refine g_iload_n C dX3_adds_21 rfl 1 rfl ?_
      refine g_icmp_ne (tgt := 30) C dX3_adds_22 (by decide) hd (fun hd => ?_) (fun hd => ?_)
      · refine g_iload_n C dX3_adds_30 rfl 3 rfl ?_
        refine g_sub [0, 1, 2, 4] rfl ?_
        exact w_X3_adds_b31 C E Q ih _ _ _ _ _ _ hd
      · refine g_iload C dX3_adds_25 4 rfl ?_
        refine g_goto (tgt := 31) C dX3_adds_27 (by decide) ?_
        refine g_sub [0, 1, 2, 4] rfl ?_
        exact w_X3_adds_b31 C E Q ih _ _ _ _ _ _ hd
theorem w_X3_adds_b0m {K : KT} {r : Unit} {S1 : St} (C : GC K RX3 cX3_adds 5 2 []) (E : EH (kΓ K) (kHI K) (kl K)) (Q : GQ K none (.inl none) S1) : ∀ (S : St) (x0 : Option Nat) (x1 : Int32) (x2 : Int32), n_X3_adds S x0 x1 x2 = some (r, S1) → G K 5 S 0 [(0, vR x0), (1, vI x1), (2, vI x2)] [] := by
  intro S x0 x1 x2 hd
  unfold n_X3_adds at hd
  refine g_iconst (v := (-1)) C dX3_adds_0 (by decide) ?_
  refine g_istore_n (L' := [(3, vI (-1 : Int32)), (0, vR x0), (1, vI x1), (2, vI x2)]) C dX3_adds_1 rfl (by decide) rfl ?_
  refine g_iconst (v := 0) C dX3_adds_2 (by decide) ?_
  refine g_istore (L' := [(4, vI (0 : Int32)), (3, vI (-1 : Int32)), (0, vR x0), (1, vI x1), (2, vI x2)]) C dX3_adds_3 (by decide) rfl ?_
  refine g_sub [2, 3, 4, 1, 0] rfl ?_
  exact w_X3_adds_b5 C E Q FU _ _ _ _ _ _ hd
theorem m_X3_adds {Γ : GG} {HI : St → Heap → Prop} {l : Launch} (E : EH Γ HI l) {S : St} {a0 : Option Nat} {a1 : Int32} {a2 : Int32} {r : Unit} {S1 : St} (h : n_X3_adds S a0 a1 a2 = some (r, S1)) : MS Γ HI l yX3_adds cX3_adds 5 none 2 S [vR a0, vI a1, vI a2] (.inl none) S1 := by
  refine MS_of E.ntr E.hx (by decide +kernel) rfl (Nat.le_of_ble_eq_true rfl) fun K e1 e2 e3 e4 hnm C Q => ?_
  subst e1; subst e2; subst e3
  exact w_X3_adds_b0m C E Q S a0 a1 a2 h

def n_X3_looksAtLost_b25 (k2 : St → Option Nat → Int32 → Option (Unit × St)) (S : St) (x0 : Option Nat) (x1 : Int32) : Option (Unit × St) :=
  k2 S x0 (x1 + 1)
def n_X3_looksAtLost_b2 : Nat → St → Option Nat → Int32 → Option (Unit × St)
  | 0 => fun _ _ _ => none
  | n + 1 => fun S x0 x1 =>
    (gI S x0 15 2).bind fun v1 =>
    if v1 ≤ x1 then
      some ((), S)
    else
      (gR S x0 15 22).bind fun v2 =>
      (aI S v2 1 x1).bind fun v3 =>
      if v3 = 0 then
        n_X3_looksAtLost_b25 (n_X3_looksAtLost_b2 n) S x0 x1
      else
        gd (grc S x0 15) <|
        bn (n_X3_adds S x0 x1 (1 : Int32)) fun _ S4 =>
        n_X3_looksAtLost_b25 (n_X3_looksAtLost_b2 n) S4 x0 x1
def n_X3_looksAtLost (S : St) (x0 : Option Nat) : Option (Unit × St) :=
  n_X3_looksAtLost_b2 FU S x0 (0 : Int32)
theorem w_X3_looksAtLost_b25 {K : KT} {r : Unit} {S1 : St} (C : GC K RX3 cX3_looksAtLost 2 3 []) (E : EH (kΓ K) (kHI K) (kl K)) (Q : GQ K none (.inl none) S1) {k2 : St → Option Nat → Int32 → Option (Unit × St)} (h2 : ∀ (S : St) (x0 : Option Nat) (x1 : Int32), k2 S x0 x1 = some (r, S1) → G K 2 S 2 [(0, vR x0), (1, vI x1)] []) : ∀ (S : St) (x0 : Option Nat) (x1 : Int32), n_X3_looksAtLost_b25 k2 S x0 x1 = some (r, S1) → G K 2 S 25 [(0, vR x0), (1, vI x1)] [] := by
  intro S x0 x1 hd
  unfold n_X3_looksAtLost_b25 at hd
  refine g_iinc (v := x1 + 1) (L' := [(1, vI (x1 + 1)), (0, vR x0)]) C dX3_looksAtLost_25 1 rfl rfl (by decide) rfl ?_
  refine g_goto (tgt := 2) C dX3_looksAtLost_28 (by decide) ?_
  refine g_sub [1, 0] rfl ?_
  exact h2 _ _ _ hd
theorem w_X3_looksAtLost_b2 {K : KT} {r : Unit} {S1 : St} (C : GC K RX3 cX3_looksAtLost 2 3 []) (E : EH (kΓ K) (kHI K) (kl K)) (Q : GQ K none (.inl none) S1) : ∀ (n : Nat) (S : St) (x0 : Option Nat) (x1 : Int32), n_X3_looksAtLost_b2 n S x0 x1 = some (r, S1) → G K 2 S 2 [(0, vR x0), (1, vI x1)] [] := by
  intro n
  induction n with
  | zero => intro S x0 x1 hd; cases hd
  | succ n ih =>
    intro S x0 x1 hd
    unfold n_X3_looksAtLost_b2 at hd
    refine g_iload_n C dX3_looksAtLost_2 rfl 1 rfl ?_
    refine g_aload_n C dX3_looksAtLost_3 rfl 0 rfl ?_
    obtain ⟨v1, hv1, hd⟩ := Option.bind_eq_some_iff.mp hd
    refine g_fld C gk_X3 (k := 2) (by decide) q1968 (Or.inl rfl) dX3_looksAtLost_4 (gI_v hv1) ?_
    refine g_icmp_ge (tgt := 31) C dX3_looksAtLost_7 (by decide) hd (fun hd => ?_) (fun hd => ?_)
    · exact g_vret C Q hd dX3_looksAtLost_31
    · refine g_aload_n C dX3_looksAtLost_10 rfl 0 rfl ?_
      obtain ⟨v2, hv2, hd⟩ := Option.bind_eq_some_iff.mp hd
      refine g_fld C gk_X3 (k := 22) (by decide) q1988 (Or.inl rfl) dX3_looksAtLost_11 (gR_v hv2) ?_
      refine g_iload_n C dX3_looksAtLost_14 rfl 1 rfl ?_
      obtain ⟨v3, hv3, hd⟩ := Option.bind_eq_some_iff.mp hd
      refine g_zaldV C dX3_looksAtLost_15 hv3 ?_
      refine g_if_eq (tgt := 25) C dX3_looksAtLost_16 (by decide) hd (fun hd => ?_) (fun hd => ?_)
      · refine g_sub [0, 1] rfl ?_
        exact w_X3_looksAtLost_b25 C E Q ih _ _ _ hd
      · refine g_aload_n C dX3_looksAtLost_19 rfl 0 rfl ?_
        refine g_iload_n C dX3_looksAtLost_20 rfl 1 rfl ?_
        refine g_iconst (v := 1) C dX3_looksAtLost_21 (by decide) ?_
        obtain ⟨hg, hd⟩ := gd_some hd
        obtain ⟨_, S4, hc, hd⟩ := bn_some hd
        refine g_cV_n (n := 2) C (gk_X3).1 q2183 q2185 qs63 q108 q2186 (by decide +kernel) (by decide) (by decide) dX3_looksAtLost_22 (As := [vI x1, vI (1 : Int32)]) (rest := []) rfl rfl (Nat.le_of_ble_eq_true rfl) hg (m_X3_adds E hc) ?_
        refine g_sub [0, 1] rfl ?_
        exact w_X3_looksAtLost_b25 C E Q ih _ _ _ hd
theorem w_X3_looksAtLost_b0m {K : KT} {r : Unit} {S1 : St} (C : GC K RX3 cX3_looksAtLost 2 3 []) (E : EH (kΓ K) (kHI K) (kl K)) (Q : GQ K none (.inl none) S1) : ∀ (S : St) (x0 : Option Nat), n_X3_looksAtLost S x0 = some (r, S1) → G K 2 S 0 [(0, vR x0)] [] := by
  intro S x0 hd
  unfold n_X3_looksAtLost at hd
  refine g_iconst (v := 0) C dX3_looksAtLost_0 (by decide) ?_
  refine g_istore_n (L' := [(1, vI (0 : Int32)), (0, vR x0)]) C dX3_looksAtLost_1 rfl (by decide) rfl ?_
  refine g_sub [1, 0] rfl ?_
  exact w_X3_looksAtLost_b2 C E Q FU _ _ _ hd
theorem m_X3_looksAtLost {Γ : GG} {HI : St → Heap → Prop} {l : Launch} (E : EH Γ HI l) {S : St} {a0 : Option Nat} {r : Unit} {S1 : St} (h : n_X3_looksAtLost S a0 = some (r, S1)) : MS Γ HI l yX3_looksAtLost cX3_looksAtLost 2 none 3 S [vR a0] (.inl none) S1 := by
  refine MS_of E.ntr E.hx (by decide +kernel) rfl (Nat.le_of_ble_eq_true rfl) fun K e1 e2 e3 e4 hnm C Q => ?_
  subst e1; subst e2; subst e3
  exact w_X3_looksAtLost_b0m C E Q S a0 h

def n_X3_drops_b192 (k12 : St → Option Nat → Int32 → Option (Unit × St)) : Nat → St → Option Nat → Int32 → Int32 → Option (Unit × St)
  | 0 => fun _ _ _ _ => none
  | n + 1 => fun S x0 x2 x3 =>
    if (60 : Int32) ≤ x3 then
      k12 S x0 (x2 + 1)
    else
      (gR S x0 15 21).bind fun v1 =>
      (gR S x0 15 21).bind fun v2 =>
      (aI S v2 1 (((60 : Int32) * (x2 + (1 : Int32))) + x3)).bind fun v3 =>
      (sI S v1 1 (((60 : Int32) * x2) + x3) v3).bind fun S4 =>
      (n_X3_drops_b192 k12 n) S4 x0 x2 (x3 + 1)
def n_X3_drops_b154 (k12 : St → Option Nat → Int32 → Option (Unit × St)) : Nat → St → Option Nat → Int32 → Int32 → Option (Unit × St)
  | 0 => fun _ _ _ _ => none
  | n + 1 => fun S x0 x2 x3 =>
    if (60 : Int32) ≤ x3 then
      n_X3_drops_b192 k12 FU S x0 x2 (0 : Int32)
    else
      (gR S x0 15 20).bind fun v1 =>
      (gR S x0 15 20).bind fun v2 =>
      (aI S v2 0 (((60 : Int32) * (x2 + (1 : Int32))) + x3)).bind fun v3 =>
      (sI S v1 0 (((60 : Int32) * x2) + x3) v3).bind fun S4 =>
      (n_X3_drops_b154 k12 n) S4 x0 x2 (x3 + 1)
def n_X3_drops_b92 (k12 : St → Option Nat → Int32 → Option (Unit × St)) : Nat → St → Option Nat → Int32 → Int32 → Option (Unit × St)
  | 0 => fun _ _ _ _ => none
  | n + 1 => fun S x0 x2 x3 =>
    if (8 : Int32) ≤ x3 then
      n_X3_drops_b154 k12 FU S x0 x2 (0 : Int32)
    else
      (gR S x0 15 15).bind fun v1 =>
      (gR S x0 15 15).bind fun v2 =>
      (aI S v2 0 (((8 : Int32) * (x2 + (1 : Int32))) + x3)).bind fun v3 =>
      (sI S v1 0 (((8 : Int32) * x2) + x3) v3).bind fun S4 =>
      (gR S4 x0 15 16).bind fun v5 =>
      (gR S4 x0 15 16).bind fun v6 =>
      (aI S4 v6 0 (((8 : Int32) * (x2 + (1 : Int32))) + x3)).bind fun v7 =>
      (sI S4 v5 0 (((8 : Int32) * x2) + x3) v7).bind fun S8 =>
      (n_X3_drops_b92 k12 n) S8 x0 x2 (x3 + 1)
def n_X3_drops_b12 : Nat → St → Option Nat → Int32 → Option (Unit × St)
  | 0 => fun _ _ _ => none
  | n + 1 => fun S x0 x2 =>
    (gI S x0 15 12).bind fun v1 =>
    if v1 ≤ x2 then
      some ((), S)
    else
      (gR S x0 15 13).bind fun v2 =>
      (gR S x0 15 13).bind fun v3 =>
      (aI S v3 0 (x2 + (1 : Int32))).bind fun v4 =>
      (sI S v2 0 x2 v4).bind fun S5 =>
      (gR S5 x0 15 14).bind fun v6 =>
      (gR S5 x0 15 14).bind fun v7 =>
      (aI S5 v7 0 (x2 + (1 : Int32))).bind fun v8 =>
      (sI S5 v6 0 x2 v8).bind fun S9 =>
      (gR S9 x0 15 17).bind fun v10 =>
      (gR S9 x0 15 17).bind fun v11 =>
      (aI S9 v11 1 (x2 + (1 : Int32))).bind fun v12 =>
      (sI S9 v10 1 x2 v12).bind fun S13 =>
      (gR S13 x0 15 18).bind fun v14 =>
      (gR S13 x0 15 18).bind fun v15 =>
      (aI S13 v15 1 (x2 + (1 : Int32))).bind fun v16 =>
      (sI S13 v14 1 x2 v16).bind fun S17 =>
      (gR S17 x0 15 19).bind fun v18 =>
      (gR S17 x0 15 19).bind fun v19 =>
      (aI S17 v19 0 (x2 + (1 : Int32))).bind fun v20 =>
      (sI S17 v18 0 x2 v20).bind fun S21 =>
      n_X3_drops_b92 (n_X3_drops_b12 n) FU S21 x0 x2 (0 : Int32)
def n_X3_drops (S : St) (x0 : Option Nat) (x1 : Int32) : Option (Unit × St) :=
  (gI S x0 15 12).bind fun v1 =>
  (pI .int S x0 15 12 (v1 - (1 : Int32))).bind fun S2 =>
  n_X3_drops_b12 FU S2 x0 x1
theorem w_X3_drops_b192 {K : KT} {r : Unit} {S1 : St} (C : GC K RX3 cX3_drops 4 2 []) (E : EH (kΓ K) (kHI K) (kl K)) (Q : GQ K none (.inl none) S1) {k12 : St → Option Nat → Int32 → Option (Unit × St)} (h12 : ∀ (S : St) (x0 : Option Nat) (x2 : Int32), k12 S x0 x2 = some (r, S1) → G K 4 S 12 [(0, vR x0), (2, vI x2)] []) : ∀ (n : Nat) (S : St) (x0 : Option Nat) (x2 : Int32) (x3 : Int32), n_X3_drops_b192 k12 n S x0 x2 x3 = some (r, S1) → G K 4 S 192 [(0, vR x0), (2, vI x2), (3, vI x3)] [] := by
  intro n
  induction n with
  | zero => intro S x0 x2 x3 hd; cases hd
  | succ n ih =>
    intro S x0 x2 x3 hd
    unfold n_X3_drops_b192 at hd
    refine g_iload_n C dX3_drops_192 rfl 2 rfl ?_
    refine g_bipush (v := 60) C dX3_drops_193 (by decide) ?_
    refine g_icmp_ge (tgt := 228) C dX3_drops_195 (by decide) hd (fun hd => ?_) (fun hd => ?_)
    · refine g_iinc (v := x2 + 1) (L' := [(2, vI (x2 + 1)), (0, vR x0), (3, vI x3)]) C dX3_drops_228 1 rfl rfl (by decide) rfl ?_
      refine g_goto (tgt := 12) C dX3_drops_231 (by decide) ?_
      refine g_sub [1, 0] rfl ?_
      exact h12 _ _ _ hd
    · refine g_aload_n C dX3_drops_198 rfl 0 rfl ?_
      obtain ⟨v1, hv1, hd⟩ := Option.bind_eq_some_iff.mp hd
      refine g_fld C gk_X3 (k := 21) (by decide) q1987 (Or.inl rfl) dX3_drops_199 (gR_v hv1) ?_
      refine g_bipush (v := 60) C dX3_drops_202 (by decide) ?_
      refine g_iload_n C dX3_drops_204 rfl 1 rfl ?_
      refine g_imul C dX3_drops_205 ?_
      refine g_iload_n C dX3_drops_206 rfl 2 rfl ?_
      refine g_iadd C dX3_drops_207 ?_
      refine g_aload_n C dX3_drops_208 rfl 0 rfl ?_
      obtain ⟨v2, hv2, hd⟩ := Option.bind_eq_some_iff.mp hd
      refine g_fld C gk_X3 (k := 21) (by decide) q1987 (Or.inl rfl) dX3_drops_209 (gR_v hv2) ?_
      refine g_bipush (v := 60) C dX3_drops_212 (by decide) ?_
      refine g_iload_n C dX3_drops_214 rfl 1 rfl ?_
      refine g_iconst (v := 1) C dX3_drops_215 (by decide) ?_
      refine g_iadd C dX3_drops_216 ?_
      refine g_imul C dX3_drops_217 ?_
      refine g_iload_n C dX3_drops_218 rfl 2 rfl ?_
      refine g_iadd C dX3_drops_219 ?_
      obtain ⟨v3, hv3, hd⟩ := Option.bind_eq_some_iff.mp hd
      refine g_zaldV C dX3_drops_220 hv3 ?_
      obtain ⟨S4, hS4, hd⟩ := Option.bind_eq_some_iff.mp hd
      refine g_zastV C dX3_drops_221 hS4 ?_
      refine g_iinc (v := x3 + 1) (L' := [(3, vI (x3 + 1)), (0, vR x0), (2, vI x2)]) C dX3_drops_222 2 rfl rfl (by decide) rfl ?_
      refine g_goto (tgt := 192) C dX3_drops_225 (by decide) ?_
      refine g_sub [1, 2, 0] rfl ?_
      exact ih _ _ _ _ hd
theorem w_X3_drops_b154 {K : KT} {r : Unit} {S1 : St} (C : GC K RX3 cX3_drops 4 2 []) (E : EH (kΓ K) (kHI K) (kl K)) (Q : GQ K none (.inl none) S1) {k12 : St → Option Nat → Int32 → Option (Unit × St)} (h12 : ∀ (S : St) (x0 : Option Nat) (x2 : Int32), k12 S x0 x2 = some (r, S1) → G K 4 S 12 [(0, vR x0), (2, vI x2)] []) : ∀ (n : Nat) (S : St) (x0 : Option Nat) (x2 : Int32) (x3 : Int32), n_X3_drops_b154 k12 n S x0 x2 x3 = some (r, S1) → G K 4 S 154 [(0, vR x0), (2, vI x2), (3, vI x3)] [] := by
  intro n
  induction n with
  | zero => intro S x0 x2 x3 hd; cases hd
  | succ n ih =>
    intro S x0 x2 x3 hd
    unfold n_X3_drops_b154 at hd
    refine g_iload_n C dX3_drops_154 rfl 2 rfl ?_
    refine g_bipush (v := 60) C dX3_drops_155 (by decide) ?_
    refine g_icmp_ge (tgt := 190) C dX3_drops_157 (by decide) hd (fun hd => ?_) (fun hd => ?_)
    · refine g_iconst (v := 0) C dX3_drops_190 (by decide) ?_
      refine g_istore_n (L' := [(3, vI (0 : Int32)), (0, vR x0), (2, vI x2)]) C dX3_drops_191 rfl (by decide) rfl ?_
      refine g_sub [1, 2, 0] rfl ?_
      exact w_X3_drops_b192 C E Q h12 FU _ _ _ _ hd
    · refine g_aload_n C dX3_drops_160 rfl 0 rfl ?_
      obtain ⟨v1, hv1, hd⟩ := Option.bind_eq_some_iff.mp hd
      refine g_fld C gk_X3 (k := 20) (by decide) q1986 (Or.inl rfl) dX3_drops_161 (gR_v hv1) ?_
      refine g_bipush (v := 60) C dX3_drops_164 (by decide) ?_
      refine g_iload_n C dX3_drops_166 rfl 1 rfl ?_
      refine g_imul C dX3_drops_167 ?_
      refine g_iload_n C dX3_drops_168 rfl 2 rfl ?_
      refine g_iadd C dX3_drops_169 ?_
      refine g_aload_n C dX3_drops_170 rfl 0 rfl ?_
      obtain ⟨v2, hv2, hd⟩ := Option.bind_eq_some_iff.mp hd
      refine g_fld C gk_X3 (k := 20) (by decide) q1986 (Or.inl rfl) dX3_drops_171 (gR_v hv2) ?_
      refine g_bipush (v := 60) C dX3_drops_174 (by decide) ?_
      refine g_iload_n C dX3_drops_176 rfl 1 rfl ?_
      refine g_iconst (v := 1) C dX3_drops_177 (by decide) ?_
      refine g_iadd C dX3_drops_178 ?_
      refine g_imul C dX3_drops_179 ?_
      refine g_iload_n C dX3_drops_180 rfl 2 rfl ?_
      refine g_iadd C dX3_drops_181 ?_
      obtain ⟨v3, hv3, hd⟩ := Option.bind_eq_some_iff.mp hd
      refine g_ialdV C dX3_drops_182 hv3 ?_
      obtain ⟨S4, hS4, hd⟩ := Option.bind_eq_some_iff.mp hd
      refine g_iastV C dX3_drops_183 hS4 ?_
      refine g_iinc (v := x3 + 1) (L' := [(3, vI (x3 + 1)), (0, vR x0), (2, vI x2)]) C dX3_drops_184 2 rfl rfl (by decide) rfl ?_
      refine g_goto (tgt := 154) C dX3_drops_187 (by decide) ?_
      refine g_sub [1, 2, 0] rfl ?_
      exact ih _ _ _ _ hd
theorem w_X3_drops_b92 {K : KT} {r : Unit} {S1 : St} (C : GC K RX3 cX3_drops 4 2 []) (E : EH (kΓ K) (kHI K) (kl K)) (Q : GQ K none (.inl none) S1) {k12 : St → Option Nat → Int32 → Option (Unit × St)} (h12 : ∀ (S : St) (x0 : Option Nat) (x2 : Int32), k12 S x0 x2 = some (r, S1) → G K 4 S 12 [(0, vR x0), (2, vI x2)] []) : ∀ (n : Nat) (S : St) (x0 : Option Nat) (x2 : Int32) (x3 : Int32), n_X3_drops_b92 k12 n S x0 x2 x3 = some (r, S1) → G K 4 S 92 [(0, vR x0), (2, vI x2), (3, vI x3)] [] := by
  intro n
  induction n with
  | zero => intro S x0 x2 x3 hd; cases hd
  | succ n ih =>
    intro S x0 x2 x3 hd
    unfold n_X3_drops_b92 at hd
    refine g_iload_n C dX3_drops_92 rfl 2 rfl ?_
    refine g_bipush (v := 8) C dX3_drops_93 (by decide) ?_
    refine g_icmp_ge (tgt := 152) C dX3_drops_95 (by decide) hd (fun hd => ?_) (fun hd => ?_)
    · refine g_iconst (v := 0) C dX3_drops_152 (by decide) ?_
      refine g_istore_n (L' := [(3, vI (0 : Int32)), (0, vR x0), (2, vI x2)]) C dX3_drops_153 rfl (by decide) rfl ?_
      refine g_sub [1, 2, 0] rfl ?_
      exact w_X3_drops_b154 C E Q h12 FU _ _ _ _ hd
    · refine g_aload_n C dX3_drops_98 rfl 0 rfl ?_
      obtain ⟨v1, hv1, hd⟩ := Option.bind_eq_some_iff.mp hd
      refine g_fld C gk_X3 (k := 15) (by decide) q1981 (Or.inl rfl) dX3_drops_99 (gR_v hv1) ?_
      refine g_bipush (v := 8) C dX3_drops_102 (by decide) ?_
      refine g_iload_n C dX3_drops_104 rfl 1 rfl ?_
      refine g_imul C dX3_drops_105 ?_
      refine g_iload_n C dX3_drops_106 rfl 2 rfl ?_
      refine g_iadd C dX3_drops_107 ?_
      refine g_aload_n C dX3_drops_108 rfl 0 rfl ?_
      obtain ⟨v2, hv2, hd⟩ := Option.bind_eq_some_iff.mp hd
      refine g_fld C gk_X3 (k := 15) (by decide) q1981 (Or.inl rfl) dX3_drops_109 (gR_v hv2) ?_
      refine g_bipush (v := 8) C dX3_drops_112 (by decide) ?_
      refine g_iload_n C dX3_drops_114 rfl 1 rfl ?_
      refine g_iconst (v := 1) C dX3_drops_115 (by decide) ?_
      refine g_iadd C dX3_drops_116 ?_
      refine g_imul C dX3_drops_117 ?_
      refine g_iload_n C dX3_drops_118 rfl 2 rfl ?_
      refine g_iadd C dX3_drops_119 ?_
      obtain ⟨v3, hv3, hd⟩ := Option.bind_eq_some_iff.mp hd
      refine g_ialdV C dX3_drops_120 hv3 ?_
      obtain ⟨S4, hS4, hd⟩ := Option.bind_eq_some_iff.mp hd
      refine g_iastV C dX3_drops_121 hS4 ?_
      refine g_aload_n C dX3_drops_122 rfl 0 rfl ?_
      obtain ⟨v5, hv5, hd⟩ := Option.bind_eq_some_iff.mp hd
      refine g_fld C gk_X3 (k := 16) (by decide) q1982 (Or.inl rfl) dX3_drops_123 (gR_v hv5) ?_
      refine g_bipush (v := 8) C dX3_drops_126 (by decide) ?_
      refine g_iload_n C dX3_drops_128 rfl 1 rfl ?_
      refine g_imul C dX3_drops_129 ?_
      refine g_iload_n C dX3_drops_130 rfl 2 rfl ?_
      refine g_iadd C dX3_drops_131 ?_
      refine g_aload_n C dX3_drops_132 rfl 0 rfl ?_
      obtain ⟨v6, hv6, hd⟩ := Option.bind_eq_some_iff.mp hd
      refine g_fld C gk_X3 (k := 16) (by decide) q1982 (Or.inl rfl) dX3_drops_133 (gR_v hv6) ?_
      refine g_bipush (v := 8) C dX3_drops_136 (by decide) ?_
      refine g_iload_n C dX3_drops_138 rfl 1 rfl ?_
      refine g_iconst (v := 1) C dX3_drops_139 (by decide) ?_
      refine g_iadd C dX3_drops_140 ?_
      refine g_imul C dX3_drops_141 ?_
      refine g_iload_n C dX3_drops_142 rfl 2 rfl ?_
      refine g_iadd C dX3_drops_143 ?_
      obtain ⟨v7, hv7, hd⟩ := Option.bind_eq_some_iff.mp hd
      refine g_ialdV C dX3_drops_144 hv7 ?_
      obtain ⟨S8, hS8, hd⟩ := Option.bind_eq_some_iff.mp hd
      refine g_iastV C dX3_drops_145 hS8 ?_
      refine g_iinc (v := x3 + 1) (L' := [(3, vI (x3 + 1)), (0, vR x0), (2, vI x2)]) C dX3_drops_146 2 rfl rfl (by decide) rfl ?_
      refine g_goto (tgt := 92) C dX3_drops_149 (by decide) ?_
      refine g_sub [1, 2, 0] rfl ?_
      exact ih _ _ _ _ hd
theorem w_X3_drops_b12 {K : KT} {r : Unit} {S1 : St} (C : GC K RX3 cX3_drops 4 2 []) (E : EH (kΓ K) (kHI K) (kl K)) (Q : GQ K none (.inl none) S1) : ∀ (n : Nat) (S : St) (x0 : Option Nat) (x2 : Int32), n_X3_drops_b12 n S x0 x2 = some (r, S1) → G K 4 S 12 [(0, vR x0), (2, vI x2)] [] := by
  intro n
  induction n with
  | zero => intro S x0 x2 hd; cases hd
  | succ n ih =>
    intro S x0 x2 hd
    unfold n_X3_drops_b12 at hd
    refine g_iload_n C dX3_drops_12 rfl 1 rfl ?_
    refine g_aload_n C dX3_drops_13 rfl 0 rfl ?_
    obtain ⟨v1, hv1, hd⟩ := Option.bind_eq_some_iff.mp hd
    refine g_fld C gk_X3 (k := 12) (by decide) q1978 (Or.inl rfl) dX3_drops_14 (gI_v hv1) ?_
    refine g_icmp_ge (tgt := 234) C dX3_drops_17 (by decide) hd (fun hd => ?_) (fun hd => ?_)
    · exact g_vret C Q hd dX3_drops_234
    · refine g_aload_n C dX3_drops_20 rfl 0 rfl ?_
      obtain ⟨v2, hv2, hd⟩ := Option.bind_eq_some_iff.mp hd
      refine g_fld C gk_X3 (k := 13) (by decide) q1979 (Or.inl rfl) dX3_drops_21 (gR_v hv2) ?_
      refine g_iload_n C dX3_drops_24 rfl 1 rfl ?_
      refine g_aload_n C dX3_drops_25 rfl 0 rfl ?_
      obtain ⟨v3, hv3, hd⟩ := Option.bind_eq_some_iff.mp hd
      refine g_fld C gk_X3 (k := 13) (by decide) q1979 (Or.inl rfl) dX3_drops_26 (gR_v hv3) ?_
      refine g_iload_n C dX3_drops_29 rfl 1 rfl ?_
      refine g_iconst (v := 1) C dX3_drops_30 (by decide) ?_
      refine g_iadd C dX3_drops_31 ?_
      obtain ⟨v4, hv4, hd⟩ := Option.bind_eq_some_iff.mp hd
      refine g_ialdV C dX3_drops_32 hv4 ?_
      obtain ⟨S5, hS5, hd⟩ := Option.bind_eq_some_iff.mp hd
      refine g_iastV C dX3_drops_33 hS5 ?_
      refine g_aload_n C dX3_drops_34 rfl 0 rfl ?_
      obtain ⟨v6, hv6, hd⟩ := Option.bind_eq_some_iff.mp hd
      refine g_fld C gk_X3 (k := 14) (by decide) q1980 (Or.inl rfl) dX3_drops_35 (gR_v hv6) ?_
      refine g_iload_n C dX3_drops_38 rfl 1 rfl ?_
      refine g_aload_n C dX3_drops_39 rfl 0 rfl ?_
      obtain ⟨v7, hv7, hd⟩ := Option.bind_eq_some_iff.mp hd
      refine g_fld C gk_X3 (k := 14) (by decide) q1980 (Or.inl rfl) dX3_drops_40 (gR_v hv7) ?_
      refine g_iload_n C dX3_drops_43 rfl 1 rfl ?_
      refine g_iconst (v := 1) C dX3_drops_44 (by decide) ?_
      refine g_iadd C dX3_drops_45 ?_
      obtain ⟨v8, hv8, hd⟩ := Option.bind_eq_some_iff.mp hd
      refine g_ialdV C dX3_drops_46 hv8 ?_
      obtain ⟨S9, hS9, hd⟩ := Option.bind_eq_some_iff.mp hd
      refine g_iastV C dX3_drops_47 hS9 ?_
      refine g_aload_n C dX3_drops_48 rfl 0 rfl ?_
      obtain ⟨v10, hv10, hd⟩ := Option.bind_eq_some_iff.mp hd
      refine g_fld C gk_X3 (k := 17) (by decide) q1983 (Or.inl rfl) dX3_drops_49 (gR_v hv10) ?_
      refine g_iload_n C dX3_drops_52 rfl 1 rfl ?_
      refine g_aload_n C dX3_drops_53 rfl 0 rfl ?_
      obtain ⟨v11, hv11, hd⟩ := Option.bind_eq_some_iff.mp hd
      refine g_fld C gk_X3 (k := 17) (by decide) q1983 (Or.inl rfl) dX3_drops_54 (gR_v hv11) ?_
      refine g_iload_n C dX3_drops_57 rfl 1 rfl ?_
      refine g_iconst (v := 1) C dX3_drops_58 (by decide) ?_
      refine g_iadd C dX3_drops_59 ?_
      obtain ⟨v12, hv12, hd⟩ := Option.bind_eq_some_iff.mp hd
      refine g_zaldV C dX3_drops_60 hv12 ?_
      obtain ⟨S13, hS13, hd⟩ := Option.bind_eq_some_iff.mp hd
      refine g_zastV C dX3_drops_61 hS13 ?_
      refine g_aload_n C dX3_drops_62 rfl 0 rfl ?_
      obtain ⟨v14, hv14, hd⟩ := Option.bind_eq_some_iff.mp hd
      refine g_fld C gk_X3 (k := 18) (by decide) q1984 (Or.inl rfl) dX3_drops_63 (gR_v hv14) ?_
      refine g_iload_n C dX3_drops_66 rfl 1 rfl ?_
      refine g_aload_n C dX3_drops_67 rfl 0 rfl ?_
      obtain ⟨v15, hv15, hd⟩ := Option.bind_eq_some_iff.mp hd
      refine g_fld C gk_X3 (k := 18) (by decide) q1984 (Or.inl rfl) dX3_drops_68 (gR_v hv15) ?_
      refine g_iload_n C dX3_drops_71 rfl 1 rfl ?_
      refine g_iconst (v := 1) C dX3_drops_72 (by decide) ?_
      refine g_iadd C dX3_drops_73 ?_
      obtain ⟨v16, hv16, hd⟩ := Option.bind_eq_some_iff.mp hd
      refine g_zaldV C dX3_drops_74 hv16 ?_
      obtain ⟨S17, hS17, hd⟩ := Option.bind_eq_some_iff.mp hd
      refine g_zastV C dX3_drops_75 hS17 ?_
      refine g_aload_n C dX3_drops_76 rfl 0 rfl ?_
      obtain ⟨v18, hv18, hd⟩ := Option.bind_eq_some_iff.mp hd
      refine g_fld C gk_X3 (k := 19) (by decide) q1985 (Or.inl rfl) dX3_drops_77 (gR_v hv18) ?_
      refine g_iload_n C dX3_drops_80 rfl 1 rfl ?_
      refine g_aload_n C dX3_drops_81 rfl 0 rfl ?_
      obtain ⟨v19, hv19, hd⟩ := Option.bind_eq_some_iff.mp hd
      refine g_fld C gk_X3 (k := 19) (by decide) q1985 (Or.inl rfl) dX3_drops_82 (gR_v hv19) ?_
      refine g_iload_n C dX3_drops_85 rfl 1 rfl ?_
      refine g_iconst (v := 1) C dX3_drops_86 (by decide) ?_
      refine g_iadd C dX3_drops_87 ?_
      obtain ⟨v20, hv20, hd⟩ := Option.bind_eq_some_iff.mp hd
      refine g_ialdV C dX3_drops_88 hv20 ?_
      obtain ⟨S21, hS21, hd⟩ := Option.bind_eq_some_iff.mp hd
      refine g_iastV C dX3_drops_89 hS21 ?_
      refine g_iconst (v := 0) C dX3_drops_90 (by decide) ?_
      refine g_istore_n (L' := [(3, vI (0 : Int32)), (0, vR x0), (2, vI x2)]) C dX3_drops_91 rfl (by decide) rfl ?_
      refine g_sub [1, 2, 0] rfl ?_
      exact w_X3_drops_b92 C E Q ih FU _ _ _ _ hd
theorem w_X3_drops_b0m {K : KT} {r : Unit} {S1 : St} (C : GC K RX3 cX3_drops 4 2 []) (E : EH (kΓ K) (kHI K) (kl K)) (Q : GQ K none (.inl none) S1) : ∀ (S : St) (x0 : Option Nat) (x1 : Int32), n_X3_drops S x0 x1 = some (r, S1) → G K 4 S 0 [(0, vR x0), (1, vI x1)] [] := by
  intro S x0 x1 hd
  unfold n_X3_drops at hd
  refine g_aload_n C dX3_drops_0 rfl 0 rfl ?_
  refine g_dup C dX3_drops_1 rfl ?_
  obtain ⟨v1, hv1, hd⟩ := Option.bind_eq_some_iff.mp hd
  refine g_fld C gk_X3 (k := 12) (by decide) q1978 (Or.inl rfl) dX3_drops_2 (gI_v hv1) ?_
  refine g_iconst (v := 1) C dX3_drops_5 (by decide) ?_
  refine g_isub C dX3_drops_6 ?_
  obtain ⟨S2, hS2, hd⟩ := Option.bind_eq_some_iff.mp hd
  refine g_put C gk_X3 (k := 12) (by decide) q1978 (Or.inl rfl) rfl dX3_drops_7 (gfit_ok (pI_v hS2).1).1 (gfit_ok (pI_v hS2).1).2 (pI_v hS2).2 ?_
  refine g_iload_n C dX3_drops_10 rfl 1 rfl ?_
  refine g_istore_n (L' := [(2, vI x1), (0, vR x0), (1, vI x1)]) C dX3_drops_11 rfl (by decide) rfl ?_
  refine g_sub [1, 0] rfl ?_
  exact w_X3_drops_b12 C E Q FU _ _ _ hd
theorem m_X3_drops {Γ : GG} {HI : St → Heap → Prop} {l : Launch} (E : EH Γ HI l) {S : St} {a0 : Option Nat} {a1 : Int32} {r : Unit} {S1 : St} (h : n_X3_drops S a0 a1 = some (r, S1)) : MS Γ HI l yX3_drops cX3_drops 4 none 2 S [vR a0, vI a1] (.inl none) S1 := by
  refine MS_of E.ntr E.hx (by decide +kernel) rfl (Nat.le_of_ble_eq_true rfl) fun K e1 e2 e3 e4 hnm C Q => ?_
  subst e1; subst e2; subst e3
  exact w_X3_drops_b0m C E Q S a0 a1 h

def n_X3_remove_b102 (k45 : St → Option Nat → Int32 → Int32 → Int32 → Option (Int32 × St)) (S : St) (x0 : Option Nat) (x1 : Int32) (x3 : Int32) (y0 : Int32) (y1 : Int32) : Option (Int32 × St) :=
  k45 S x0 x1 (y1 + y0) (x3 + 1)
def n_X3_remove_b86 (k45 : St → Option Nat → Int32 → Int32 → Int32 → Option (Int32 × St)) (S : St) (x0 : Option Nat) (x1 : Int32) (x2 : Int32) (x3 : Int32) (y0 : Int32) (y1 : Int32) (y2 : Option Nat) : Option (Int32 × St) :=
  (sI S y2 1 y1 y0).bind fun S1 =>
  (gR S1 x0 15 43).bind fun v2 =>
  (aI S1 v2 1 x3).bind fun v3 =>
  if v3 = 0 then
    n_X3_remove_b102 k45 S1 x0 x1 x3 (0 : Int32) x2
  else
    n_X3_remove_b102 k45 S1 x0 x1 x3 (1 : Int32) x2
def n_X3_remove_b81 (k45 : St → Option Nat → Int32 → Int32 → Int32 → Option (Int32 × St)) (S : St) (x0 : Option Nat) (x1 : Int32) (x2 : Int32) (x3 : Int32) (y0 : Int32) (y1 : Option Nat) : Option (Int32 × St) :=
  n_X3_remove_b86 k45 S x0 x1 x2 x3 (1 : Int32) y0 y1
def n_X3_remove_b85 (k45 : St → Option Nat → Int32 → Int32 → Int32 → Option (Int32 × St)) (S : St) (x0 : Option Nat) (x1 : Int32) (x2 : Int32) (x3 : Int32) (y0 : Int32) (y1 : Option Nat) : Option (Int32 × St) :=
  n_X3_remove_b86 k45 S x0 x1 x2 x3 (0 : Int32) y0 y1
def n_X3_remove_b148 (k112 : St → Option Nat → Int32 → Int32 → Option (Int32 × St)) (S : St) (x0 : Option Nat) (x2 : Int32) (x3 : Int32) (y0 : Int32) (y1 : Int32) (y2 : Option Nat) : Option (Int32 × St) :=
  (sI S y2 1 y1 y0).bind fun S1 =>
  k112 S1 x0 x2 (x3 + 1)
def n_X3_remove_b147 (k112 : St → Option Nat → Int32 → Int32 → Option (Int32 × St)) (S : St) (x0 : Option Nat) (x2 : Int32) (x3 : Int32) (y0 : Int32) (y1 : Option Nat) : Option (Int32 × St) :=
  n_X3_remove_b148 k112 S x0 x2 x3 (0 : Int32) y0 y1
def n_X3_remove_b194 (k168 : St → Option Nat → Int32 → Int32 → Int32 → Option (Int32 × St)) (S : St) (x0 : Option Nat) (x2 : Int32) (x3 : Int32) (x4 : Int32) : Option (Int32 × St) :=
  k168 S x0 x2 x3 (x4 + (-1))
def n_X3_remove_b168 : Nat → St → Option Nat → Int32 → Int32 → Int32 → Option (Int32 × St)
  | 0 => fun _ _ _ _ _ => none
  | n + 1 => fun S x0 x2 x3 x4 =>
    if x4 < 0 then
      (gI S x0 15 12).bind fun v1 =>
      if x3 ≤ v1 then
        rtI id (Jvm.ClassFile.FieldType.int) x2 S
      else
        gd (grc S x0 15) <|
        bn (n_X3_looksAtLost S x0) fun _ S2 =>
        rtI id (Jvm.ClassFile.FieldType.int) x2 S2
    else
      (gR S x0 15 3).bind fun v4 =>
      (gR S x0 15 13).bind fun v5 =>
      (aI S v5 0 x4).bind fun v6 =>
      (aI S v4 1 v6).bind fun v7 =>
      if v7 = 0 then
        gd (grc S x0 15) <|
        bn (n_X3_drops S x0 x4) fun _ S8 =>
        n_X3_remove_b194 (n_X3_remove_b168 n) S8 x0 x2 x3 x4
      else
        n_X3_remove_b194 (n_X3_remove_b168 n) S x0 x2 x3 x4
def n_X3_remove_b112 : Nat → St → Option Nat → Int32 → Int32 → Option (Int32 × St)
  | 0 => fun _ _ _ _ => none
  | n + 1 => fun S x0 x2 x3 =>
    (gI S x0 15 2).bind fun v1 =>
    if v1 ≤ x3 then
      (gI S x0 15 12).bind fun v2 =>
      (gI S x0 15 12).bind fun v3 =>
      n_X3_remove_b168 FU S x0 x2 v2 (v3 - (1 : Int32))
    else
      (gR S x0 15 3).bind fun v4 =>
      (gR S x0 15 3).bind fun v5 =>
      (aI S v5 1 x3).bind fun v6 =>
      if v6 = 0 then
        n_X3_remove_b147 (n_X3_remove_b112 n) S x0 x2 x3 x3 v4
      else
        (gR S x0 15 43).bind fun v7 =>
        (aI S v7 1 x3).bind fun v8 =>
        if v8 = 0 then
          n_X3_remove_b148 (n_X3_remove_b112 n) S x0 x2 x3 (1 : Int32) x3 v4
        else
          n_X3_remove_b147 (n_X3_remove_b112 n) S x0 x2 x3 x3 v4
def n_X3_remove_b45 : Nat → St → Option Nat → Int32 → Int32 → Int32 → Option (Int32 × St)
  | 0 => fun _ _ _ _ _ => none
  | n + 1 => fun S x0 x1 x2 x3 =>
    (gI S x0 15 2).bind fun v1 =>
    if v1 ≤ x3 then
      n_X3_remove_b112 FU S x0 x2 (0 : Int32)
    else
      (gR S x0 15 43).bind fun v2 =>
      (gR S x0 15 3).bind fun v3 =>
      (aI S v3 1 x3).bind fun v4 =>
      if v4 = 0 then
        n_X3_remove_b85 (n_X3_remove_b45 n) S x0 x1 x2 x3 x3 v2
      else
        if x3 = x1 then
          n_X3_remove_b81 (n_X3_remove_b45 n) S x0 x1 x2 x3 x3 v2
        else
          gd (grc S x0 15) <|
          bn (n_X3_isBelow S x0 x3 x1) fun v6 S5 =>
          if v6 = 0 then
            n_X3_remove_b85 (n_X3_remove_b45 n) S5 x0 x1 x2 x3 x3 v2
          else
            n_X3_remove_b81 (n_X3_remove_b45 n) S5 x0 x1 x2 x3 x3 v2
def n_X3_remove_b18 (S : St) (x0 : Option Nat) (x1 : Int32) (y0 : Int32) (y1 : Option Nat) : Option (Int32 × St) :=
  (pI .int S y1 15 0 y0).bind fun S1 =>
  (gI S1 x0 15 0).bind fun v2 =>
  if v2 ≤ 0 then
    gd (grc S1 x0 15) <|
    bn (n_X3_over S1 x0 x1) fun v4 S3 =>
    gd (grc S3 x0 15) <|
    bn (n_X3_comes S3 x0 v4 (2 : Int32) x1) fun _ S5 =>
    n_X3_remove_b45 FU S5 x0 x1 (0 : Int32) (0 : Int32)
  else
    rtI id (Jvm.ClassFile.FieldType.int) (0 : Int32) S1
def n_X3_remove_b17 (S : St) (x0 : Option Nat) (x1 : Int32) (y0 : Option Nat) : Option (Int32 × St) :=
  n_X3_remove_b18 S x0 x1 (1 : Int32) y0
def n_X3_remove (S : St) (x0 : Option Nat) (x1 : Int32) : Option (Int32 × St) :=
  gd (grc S x0 15) <|
  bn (n_X3_isNode S x0 x1) fun v2 S1 =>
  if v2 = 0 then
    n_X3_remove_b17 S1 x0 x1 x0
  else
    if x1 = 0 then
      n_X3_remove_b17 S1 x0 x1 x0
    else
      n_X3_remove_b18 S1 x0 x1 (0 : Int32) x0
theorem w_X3_remove_b102 {K : KT} {r : Int32} {S1 : St} (C : GC K RX3 cX3_remove 5 4 []) (E : EH (kΓ K) (kHI K) (kl K)) (Q : GQ K (some (Jvm.ClassFile.FieldType.int)) (.inl (some (vI r))) S1) {k45 : St → Option Nat → Int32 → Int32 → Int32 → Option (Int32 × St)} (h45 : ∀ (S : St) (x0 : Option Nat) (x1 : Int32) (x2 : Int32) (x3 : Int32), k45 S x0 x1 x2 x3 = some (r, S1) → G K 5 S 45 [(0, vR x0), (1, vI x1), (2, vI x2), (3, vI x3)] []) : ∀ (S : St) (x0 : Option Nat) (x1 : Int32) (x3 : Int32) (y0 : Int32) (y1 : Int32), n_X3_remove_b102 k45 S x0 x1 x3 y0 y1 = some (r, S1) → G K 5 S 102 [(0, vR x0), (1, vI x1), (3, vI x3)] [vI y0, vI y1] := by
  intro S x0 x1 x3 y0 y1 hd
  unfold n_X3_remove_b102 at hd
  refine g_iadd C dX3_remove_102 ?_
  refine g_istore_n (L' := [(2, vI (y1 + y0)), (0, vR x0), (1, vI x1), (3, vI x3)]) C dX3_remove_103 rfl (by decide) rfl ?_
  refine g_iinc (v := x3 + 1) (L' := [(3, vI (x3 + 1)), (2, vI (y1 + y0)), (0, vR x0), (1, vI x1)]) C dX3_remove_104 3 rfl rfl (by decide) rfl ?_
  refine g_goto (tgt := 45) C dX3_remove_107 (by decide) ?_
  refine g_sub [2, 3, 1, 0] rfl ?_
  exact h45 _ _ _ _ _ hd
theorem w_X3_remove_b86 {K : KT} {r : Int32} {S1 : St} (C : GC K RX3 cX3_remove 5 4 []) (E : EH (kΓ K) (kHI K) (kl K)) (Q : GQ K (some (Jvm.ClassFile.FieldType.int)) (.inl (some (vI r))) S1) {k45 : St → Option Nat → Int32 → Int32 → Int32 → Option (Int32 × St)} (h45 : ∀ (S : St) (x0 : Option Nat) (x1 : Int32) (x2 : Int32) (x3 : Int32), k45 S x0 x1 x2 x3 = some (r, S1) → G K 5 S 45 [(0, vR x0), (1, vI x1), (2, vI x2), (3, vI x3)] []) : ∀ (S : St) (x0 : Option Nat) (x1 : Int32) (x2 : Int32) (x3 : Int32) (y0 : Int32) (y1 : Int32) (y2 : Option Nat), n_X3_remove_b86 k45 S x0 x1 x2 x3 y0 y1 y2 = some (r, S1) → G K 5 S 86 [(0, vR x0), (1, vI x1), (2, vI x2), (3, vI x3)] [vI y0, vI y1, vR y2] := by
  intro S x0 x1 x2 x3 y0 y1 y2 hd
  unfold n_X3_remove_b86 at hd
  obtain ⟨S1, hS1, hd⟩ := Option.bind_eq_some_iff.mp hd
  refine g_zastV C dX3_remove_86 hS1 ?_
  refine g_iload_n C dX3_remove_87 rfl 2 rfl ?_
  refine g_aload_n C dX3_remove_88 rfl 0 rfl ?_
  obtain ⟨v2, hv2, hd⟩ := Option.bind_eq_some_iff.mp hd
  refine g_fld C gk_X3 (k := 43) (by decide) q2009 (Or.inl rfl) dX3_remove_89 (gR_v hv2) ?_
  refine g_iload_n C dX3_remove_92 rfl 3 rfl ?_
  obtain ⟨v3, hv3, hd⟩ := Option.bind_eq_some_iff.mp hd
  refine g_zaldV C dX3_remove_93 hv3 ?_
  refine g_if_eq (tgt := 101) C dX3_remove_94 (by decide) hd (fun hd => ?_) (fun hd => ?_)
  · refine g_iconst (v := 0) C dX3_remove_101 (by decide) ?_
    refine g_sub [0, 1, 3] rfl ?_
    exact w_X3_remove_b102 C E Q h45 _ _ _ _ _ _ hd
  · refine g_iconst (v := 1) C dX3_remove_97 (by decide) ?_
    refine g_goto (tgt := 102) C dX3_remove_98 (by decide) ?_
    refine g_sub [0, 1, 3] rfl ?_
    exact w_X3_remove_b102 C E Q h45 _ _ _ _ _ _ hd
theorem w_X3_remove_b81 {K : KT} {r : Int32} {S1 : St} (C : GC K RX3 cX3_remove 5 4 []) (E : EH (kΓ K) (kHI K) (kl K)) (Q : GQ K (some (Jvm.ClassFile.FieldType.int)) (.inl (some (vI r))) S1) {k45 : St → Option Nat → Int32 → Int32 → Int32 → Option (Int32 × St)} (h45 : ∀ (S : St) (x0 : Option Nat) (x1 : Int32) (x2 : Int32) (x3 : Int32), k45 S x0 x1 x2 x3 = some (r, S1) → G K 5 S 45 [(0, vR x0), (1, vI x1), (2, vI x2), (3, vI x3)] []) : ∀ (S : St) (x0 : Option Nat) (x1 : Int32) (x2 : Int32) (x3 : Int32) (y0 : Int32) (y1 : Option Nat), n_X3_remove_b81 k45 S x0 x1 x2 x3 y0 y1 = some (r, S1) → G K 5 S 81 [(0, vR x0), (1, vI x1), (2, vI x2), (3, vI x3)] [vI y0, vR y1] := by
  intro S x0 x1 x2 x3 y0 y1 hd
  unfold n_X3_remove_b81 at hd
  refine g_iconst (v := 1) C dX3_remove_81 (by decide) ?_
  refine g_goto (tgt := 86) C dX3_remove_82 (by decide) ?_
  refine g_sub [0, 1, 2, 3] rfl ?_
  exact w_X3_remove_b86 C E Q h45 _ _ _ _ _ _ _ _ hd
theorem w_X3_remove_b85 {K : KT} {r : Int32} {S1 : St} (C : GC K RX3 cX3_remove 5 4 []) (E : EH (kΓ K) (kHI K) (kl K)) (Q : GQ K (some (Jvm.ClassFile.FieldType.int)) (.inl (some (vI r))) S1) {k45 : St → Option Nat → Int32 → Int32 → Int32 → Option (Int32 × St)} (h45 : ∀ (S : St) (x0 : Option Nat) (x1 : Int32) (x2 : Int32) (x3 : Int32), k45 S x0 x1 x2 x3 = some (r, S1) → G K 5 S 45 [(0, vR x0), (1, vI x1), (2, vI x2), (3, vI x3)] []) : ∀ (S : St) (x0 : Option Nat) (x1 : Int32) (x2 : Int32) (x3 : Int32) (y0 : Int32) (y1 : Option Nat), n_X3_remove_b85 k45 S x0 x1 x2 x3 y0 y1 = some (r, S1) → G K 5 S 85 [(0, vR x0), (1, vI x1), (2, vI x2), (3, vI x3)] [vI y0, vR y1] := by
  intro S x0 x1 x2 x3 y0 y1 hd
  unfold n_X3_remove_b85 at hd
  refine g_iconst (v := 0) C dX3_remove_85 (by decide) ?_
  refine g_sub [0, 1, 2, 3] rfl ?_
  exact w_X3_remove_b86 C E Q h45 _ _ _ _ _ _ _ _ hd
theorem w_X3_remove_b148 {K : KT} {r : Int32} {S1 : St} (C : GC K RX3 cX3_remove 5 4 []) (E : EH (kΓ K) (kHI K) (kl K)) (Q : GQ K (some (Jvm.ClassFile.FieldType.int)) (.inl (some (vI r))) S1) {k112 : St → Option Nat → Int32 → Int32 → Option (Int32 × St)} (h112 : ∀ (S : St) (x0 : Option Nat) (x2 : Int32) (x3 : Int32), k112 S x0 x2 x3 = some (r, S1) → G K 5 S 112 [(0, vR x0), (2, vI x2), (3, vI x3)] []) : ∀ (S : St) (x0 : Option Nat) (x2 : Int32) (x3 : Int32) (y0 : Int32) (y1 : Int32) (y2 : Option Nat), n_X3_remove_b148 k112 S x0 x2 x3 y0 y1 y2 = some (r, S1) → G K 5 S 148 [(0, vR x0), (2, vI x2), (3, vI x3)] [vI y0, vI y1, vR y2] := by
  intro S x0 x2 x3 y0 y1 y2 hd
  unfold n_X3_remove_b148 at hd
  obtain ⟨S1, hS1, hd⟩ := Option.bind_eq_some_iff.mp hd
  refine g_zastV C dX3_remove_148 hS1 ?_
  refine g_iinc (v := x3 + 1) (L' := [(3, vI (x3 + 1)), (0, vR x0), (2, vI x2)]) C dX3_remove_149 2 rfl rfl (by decide) rfl ?_
  refine g_goto (tgt := 112) C dX3_remove_152 (by decide) ?_
  refine g_sub [1, 2, 0] rfl ?_
  exact h112 _ _ _ _ hd
theorem w_X3_remove_b147 {K : KT} {r : Int32} {S1 : St} (C : GC K RX3 cX3_remove 5 4 []) (E : EH (kΓ K) (kHI K) (kl K)) (Q : GQ K (some (Jvm.ClassFile.FieldType.int)) (.inl (some (vI r))) S1) {k112 : St → Option Nat → Int32 → Int32 → Option (Int32 × St)} (h112 : ∀ (S : St) (x0 : Option Nat) (x2 : Int32) (x3 : Int32), k112 S x0 x2 x3 = some (r, S1) → G K 5 S 112 [(0, vR x0), (2, vI x2), (3, vI x3)] []) : ∀ (S : St) (x0 : Option Nat) (x2 : Int32) (x3 : Int32) (y0 : Int32) (y1 : Option Nat), n_X3_remove_b147 k112 S x0 x2 x3 y0 y1 = some (r, S1) → G K 5 S 147 [(0, vR x0), (2, vI x2), (3, vI x3)] [vI y0, vR y1] := by
  intro S x0 x2 x3 y0 y1 hd
  unfold n_X3_remove_b147 at hd
  refine g_iconst (v := 0) C dX3_remove_147 (by decide) ?_
  refine g_sub [0, 1, 2] rfl ?_
  exact w_X3_remove_b148 C E Q h112 _ _ _ _ _ _ _ hd
theorem w_X3_remove_b194 {K : KT} {r : Int32} {S1 : St} (C : GC K RX3 cX3_remove 5 4 []) (E : EH (kΓ K) (kHI K) (kl K)) (Q : GQ K (some (Jvm.ClassFile.FieldType.int)) (.inl (some (vI r))) S1) {k168 : St → Option Nat → Int32 → Int32 → Int32 → Option (Int32 × St)} (h168 : ∀ (S : St) (x0 : Option Nat) (x2 : Int32) (x3 : Int32) (x4 : Int32), k168 S x0 x2 x3 x4 = some (r, S1) → G K 5 S 168 [(0, vR x0), (2, vI x2), (3, vI x3), (4, vI x4)] []) : ∀ (S : St) (x0 : Option Nat) (x2 : Int32) (x3 : Int32) (x4 : Int32), n_X3_remove_b194 k168 S x0 x2 x3 x4 = some (r, S1) → G K 5 S 194 [(0, vR x0), (2, vI x2), (3, vI x3), (4, vI x4)] [] := by
  intro S x0 x2 x3 x4 hd
  unfold n_X3_remove_b194 at hd
  refine g_iinc (v := x4 + (-1)) (L' := [(4, vI (x4 + (-1))), (0, vR x0), (2, vI x2), (3, vI x3)]) C dX3_remove_194 3 rfl rfl (by decide) rfl ?_
  refine g_goto (tgt := 168) C dX3_remove_197 (by decide) ?_
  refine g_sub [1, 2, 3, 0] rfl ?_
  exact h168 _ _ _ _ _ hd
theorem w_X3_remove_b168 {K : KT} {r : Int32} {S1 : St} (C : GC K RX3 cX3_remove 5 4 []) (E : EH (kΓ K) (kHI K) (kl K)) (Q : GQ K (some (Jvm.ClassFile.FieldType.int)) (.inl (some (vI r))) S1) : ∀ (n : Nat) (S : St) (x0 : Option Nat) (x2 : Int32) (x3 : Int32) (x4 : Int32), n_X3_remove_b168 n S x0 x2 x3 x4 = some (r, S1) → G K 5 S 168 [(0, vR x0), (2, vI x2), (3, vI x3), (4, vI x4)] [] := by
  intro n
  induction n with
  | zero => intro S x0 x2 x3 x4 hd; cases hd
  | succ n ih =>
    intro S x0 x2 x3 x4 hd
    unfold n_X3_remove_b168 at hd
    refine g_iload C dX3_remove_168 3 rfl ?_
    refine g_if_lt (tgt := 200) C dX3_remove_170 (by decide) hd (fun hd => ?_) (fun hd => ?_)
    · refine g_aload_n C dX3_remove_200 rfl 0 rfl ?_
      obtain ⟨v1, hv1, hd⟩ := Option.bind_eq_some_iff.mp hd
      refine g_fld C gk_X3 (k := 12) (by decide) q1978 (Or.inl rfl) dX3_remove_201 (gI_v hv1) ?_
      refine g_iload_n C dX3_remove_204 rfl 2 rfl ?_
      refine g_icmp_ge (tgt := 212) C dX3_remove_205 (by decide) hd (fun hd => ?_) (fun hd => ?_)
      · refine g_iload_n C dX3_remove_212 rfl 1 rfl ?_
        exact g_iret C Q hd dX3_remove_213
      · refine g_aload_n C dX3_remove_208 rfl 0 rfl ?_
        obtain ⟨hg, hd⟩ := gd_some hd
        obtain ⟨_, S2, hc, hd⟩ := bn_some hd
        refine g_cV_n (n := 0) C (gk_X3).1 q2179 q2181 qs62 q108 q2182 (by decide +kernel) (by decide) (by decide) dX3_remove_209 (As := []) (rest := []) rfl rfl (Nat.le_of_ble_eq_true rfl) hg (m_X3_looksAtLost E hc) ?_
        refine g_iload_n C dX3_remove_212 rfl 1 rfl ?_
        exact g_iret C Q hd dX3_remove_213
    · refine g_aload_n C dX3_remove_173 rfl 0 rfl ?_
      obtain ⟨v4, hv4, hd⟩ := Option.bind_eq_some_iff.mp hd
      refine g_fld C gk_X3 (k := 3) (by decide) q1969 (Or.inl rfl) dX3_remove_174 (gR_v hv4) ?_
      refine g_aload_n C dX3_remove_177 rfl 0 rfl ?_
      obtain ⟨v5, hv5, hd⟩ := Option.bind_eq_some_iff.mp hd
      refine g_fld C gk_X3 (k := 13) (by decide) q1979 (Or.inl rfl) dX3_remove_178 (gR_v hv5) ?_
      refine g_iload C dX3_remove_181 3 rfl ?_
      obtain ⟨v6, hv6, hd⟩ := Option.bind_eq_some_iff.mp hd
      refine g_ialdV C dX3_remove_183 hv6 ?_
      obtain ⟨v7, hv7, hd⟩ := Option.bind_eq_some_iff.mp hd
      refine g_zaldV C dX3_remove_184 hv7 ?_
      refine g_if_ne (tgt := 194) C dX3_remove_185 (by decide) hd (fun hd => ?_) (fun hd => ?_)
      · refine g_sub [0, 1, 2, 3] rfl ?_
        exact w_X3_remove_b194 C E Q ih _ _ _ _ _ hd
      · refine g_aload_n C dX3_remove_188 rfl 0 rfl ?_
        refine g_iload C dX3_remove_189 3 rfl ?_
        obtain ⟨hg, hd⟩ := gd_some hd
        obtain ⟨_, S8, hc, hd⟩ := bn_some hd
        refine g_cV_n (n := 1) C (gk_X3).1 q2175 q2177 qs61 q108 q2178 (by decide +kernel) (by decide) (by decide) dX3_remove_191 (As := [vI x4]) (rest := []) rfl rfl (Nat.le_of_ble_eq_true rfl) hg (m_X3_drops E hc) ?_
        refine g_sub [0, 1, 2, 3] rfl ?_
        exact w_X3_remove_b194 C E Q ih _ _ _ _ _ hd
theorem w_X3_remove_b112 {K : KT} {r : Int32} {S1 : St} (C : GC K RX3 cX3_remove 5 4 []) (E : EH (kΓ K) (kHI K) (kl K)) (Q : GQ K (some (Jvm.ClassFile.FieldType.int)) (.inl (some (vI r))) S1) : ∀ (n : Nat) (S : St) (x0 : Option Nat) (x2 : Int32) (x3 : Int32), n_X3_remove_b112 n S x0 x2 x3 = some (r, S1) → G K 5 S 112 [(0, vR x0), (2, vI x2), (3, vI x3)] [] := by
  intro n
  induction n with
  | zero => intro S x0 x2 x3 hd; cases hd
  | succ n ih =>
    intro S x0 x2 x3 hd
    unfold n_X3_remove_b112 at hd
    refine g_iload_n C dX3_remove_112 rfl 2 rfl ?_
    refine g_aload_n C dX3_remove_113 rfl 0 rfl ?_
    obtain ⟨v1, hv1, hd⟩ := Option.bind_eq_some_iff.mp hd
    refine g_fld C gk_X3 (k := 2) (by decide) q1968 (Or.inl rfl) dX3_remove_114 (gI_v hv1) ?_
    refine g_icmp_ge (tgt := 155) C dX3_remove_117 (by decide) hd (fun hd => ?_) (fun hd => ?_)
    · refine g_aload_n C dX3_remove_155 rfl 0 rfl ?_
      obtain ⟨v2, hv2, hd⟩ := Option.bind_eq_some_iff.mp hd
      refine g_fld C gk_X3 (k := 12) (by decide) q1978 (Or.inl rfl) dX3_remove_156 (gI_v hv2) ?_
      refine g_istore_n (L' := [(3, vI v2), (0, vR x0), (2, vI x2)]) C dX3_remove_159 rfl (by decide) rfl ?_
      refine g_aload_n C dX3_remove_160 rfl 1 rfl ?_
      obtain ⟨v3, hv3, hd⟩ := Option.bind_eq_some_iff.mp hd
      refine g_fld C gk_X3 (k := 12) (by decide) q1978 (Or.inl rfl) dX3_remove_161 (gI_v hv3) ?_
      refine g_iconst (v := 1) C dX3_remove_164 (by decide) ?_
      refine g_isub C dX3_remove_165 ?_
      refine g_istore (L' := [(4, vI (v3 - (1 : Int32))), (3, vI v2), (0, vR x0), (2, vI x2)]) C dX3_remove_166 (by decide) rfl ?_
      refine g_sub [2, 3, 1, 0] rfl ?_
      exact w_X3_remove_b168 C E Q FU _ _ _ _ _ hd
    · refine g_aload_n C dX3_remove_120 rfl 0 rfl ?_
      obtain ⟨v4, hv4, hd⟩ := Option.bind_eq_some_iff.mp hd
      refine g_fld C gk_X3 (k := 3) (by decide) q1969 (Or.inl rfl) dX3_remove_121 (gR_v hv4) ?_
      refine g_iload_n C dX3_remove_124 rfl 2 rfl ?_
      refine g_aload_n C dX3_remove_125 rfl 0 rfl ?_
      obtain ⟨v5, hv5, hd⟩ := Option.bind_eq_some_iff.mp hd
      refine g_fld C gk_X3 (k := 3) (by decide) q1969 (Or.inl rfl) dX3_remove_126 (gR_v hv5) ?_
      refine g_iload_n C dX3_remove_129 rfl 2 rfl ?_
      obtain ⟨v6, hv6, hd⟩ := Option.bind_eq_some_iff.mp hd
      refine g_zaldV C dX3_remove_130 hv6 ?_
      refine g_if_eq (tgt := 147) C dX3_remove_131 (by decide) hd (fun hd => ?_) (fun hd => ?_)
      · refine g_sub [0, 1, 2] rfl ?_
        exact w_X3_remove_b147 C E Q ih _ _ _ _ _ _ hd
      · refine g_aload_n C dX3_remove_134 rfl 0 rfl ?_
        obtain ⟨v7, hv7, hd⟩ := Option.bind_eq_some_iff.mp hd
        refine g_fld C gk_X3 (k := 43) (by decide) q2009 (Or.inl rfl) dX3_remove_135 (gR_v hv7) ?_
        refine g_iload_n C dX3_remove_138 rfl 2 rfl ?_
        obtain ⟨v8, hv8, hd⟩ := Option.bind_eq_some_iff.mp hd
        refine g_zaldV C dX3_remove_139 hv8 ?_
        refine g_if_ne (tgt := 147) C dX3_remove_140 (by decide) hd (fun hd => ?_) (fun hd => ?_)
        · refine g_sub [0, 1, 2] rfl ?_
          exact w_X3_remove_b147 C E Q ih _ _ _ _ _ _ hd
        · refine g_iconst (v := 1) C dX3_remove_143 (by decide) ?_
          refine g_goto (tgt := 148) C dX3_remove_144 (by decide) ?_
          refine g_sub [0, 1, 2] rfl ?_
          exact w_X3_remove_b148 C E Q ih _ _ _ _ _ _ _ hd
theorem w_X3_remove_b45 {K : KT} {r : Int32} {S1 : St} (C : GC K RX3 cX3_remove 5 4 []) (E : EH (kΓ K) (kHI K) (kl K)) (Q : GQ K (some (Jvm.ClassFile.FieldType.int)) (.inl (some (vI r))) S1) : ∀ (n : Nat) (S : St) (x0 : Option Nat) (x1 : Int32) (x2 : Int32) (x3 : Int32), n_X3_remove_b45 n S x0 x1 x2 x3 = some (r, S1) → G K 5 S 45 [(0, vR x0), (1, vI x1), (2, vI x2), (3, vI x3)] [] := by
  intro n
  induction n with
  | zero => intro S x0 x1 x2 x3 hd; cases hd
  | succ n ih =>
    intro S x0 x1 x2 x3 hd
    unfold n_X3_remove_b45 at hd
    refine g_iload_n C dX3_remove_45 rfl 3 rfl ?_
    refine g_aload_n C dX3_remove_46 rfl 0 rfl ?_
    obtain ⟨v1, hv1, hd⟩ := Option.bind_eq_some_iff.mp hd
    refine g_fld C gk_X3 (k := 2) (by decide) q1968 (Or.inl rfl) dX3_remove_47 (gI_v hv1) ?_
    refine g_icmp_ge (tgt := 110) C dX3_remove_50 (by decide) hd (fun hd => ?_) (fun hd => ?_)
    · refine g_iconst (v := 0) C dX3_remove_110 (by decide) ?_
      refine g_istore_n (L' := [(3, vI (0 : Int32)), (0, vR x0), (1, vI x1), (2, vI x2)]) C dX3_remove_111 rfl (by decide) rfl ?_
      refine g_sub [1, 3, 0] rfl ?_
      exact w_X3_remove_b112 C E Q FU _ _ _ _ hd
    · refine g_aload_n C dX3_remove_53 rfl 0 rfl ?_
      obtain ⟨v2, hv2, hd⟩ := Option.bind_eq_some_iff.mp hd
      refine g_fld C gk_X3 (k := 43) (by decide) q2009 (Or.inl rfl) dX3_remove_54 (gR_v hv2) ?_
      refine g_iload_n C dX3_remove_57 rfl 3 rfl ?_
      refine g_aload_n C dX3_remove_58 rfl 0 rfl ?_
      obtain ⟨v3, hv3, hd⟩ := Option.bind_eq_some_iff.mp hd
      refine g_fld C gk_X3 (k := 3) (by decide) q1969 (Or.inl rfl) dX3_remove_59 (gR_v hv3) ?_
      refine g_iload_n C dX3_remove_62 rfl 3 rfl ?_
      obtain ⟨v4, hv4, hd⟩ := Option.bind_eq_some_iff.mp hd
      refine g_zaldV C dX3_remove_63 hv4 ?_
      refine g_if_eq (tgt := 85) C dX3_remove_64 (by decide) hd (fun hd => ?_) (fun hd => ?_)
      · refine g_sub [0, 1, 2, 3] rfl ?_
        exact w_X3_remove_b85 C E Q ih _ _ _ _ _ _ _ hd
      · refine g_iload_n C dX3_remove_67 rfl 3 rfl ?_
        refine g_iload_n C dX3_remove_68 rfl 1 rfl ?_
        refine g_icmp_eq (tgt := 81) C dX3_remove_69 (by decide) hd (fun hd => ?_) (fun hd => ?_)
        · refine g_sub [0, 1, 2, 3] rfl ?_
          exact w_X3_remove_b81 C E Q ih _ _ _ _ _ _ _ hd
        · refine g_aload_n C dX3_remove_72 rfl 0 rfl ?_
          refine g_iload_n C dX3_remove_73 rfl 3 rfl ?_
          refine g_iload_n C dX3_remove_74 rfl 1 rfl ?_
          obtain ⟨hg, hd⟩ := gd_some hd
          obtain ⟨v6, S5, hc, hd⟩ := bn_some hd
          refine g_cV_v (n := 2) C (gk_X3).1 q2139 q2141 qs56 q108 q2142 (by decide +kernel) (by decide) (by decide) dX3_remove_75 (As := [vI x3, vI x1]) (rest := [vI x3, vR v2]) rfl rfl (Nat.le_of_ble_eq_true rfl) hg (m_X3_isBelow E hc) ?_
          refine g_if_eq (tgt := 85) C dX3_remove_78 (by decide) hd (fun hd => ?_) (fun hd => ?_)
          · refine g_sub [0, 1, 2, 3] rfl ?_
            exact w_X3_remove_b85 C E Q ih _ _ _ _ _ _ _ hd
          · refine g_sub [0, 1, 2, 3] rfl ?_
            exact w_X3_remove_b81 C E Q ih _ _ _ _ _ _ _ hd
theorem w_X3_remove_b18 {K : KT} {r : Int32} {S1 : St} (C : GC K RX3 cX3_remove 5 4 []) (E : EH (kΓ K) (kHI K) (kl K)) (Q : GQ K (some (Jvm.ClassFile.FieldType.int)) (.inl (some (vI r))) S1) : ∀ (S : St) (x0 : Option Nat) (x1 : Int32) (y0 : Int32) (y1 : Option Nat), n_X3_remove_b18 S x0 x1 y0 y1 = some (r, S1) → G K 5 S 18 [(0, vR x0), (1, vI x1)] [vI y0, vR y1] := by
  intro S x0 x1 y0 y1 hd
  unfold n_X3_remove_b18 at hd
  obtain ⟨S1, hS1, hd⟩ := Option.bind_eq_some_iff.mp hd
  refine g_put C gk_X3 (k := 0) (by decide) q1966 (Or.inl rfl) rfl dX3_remove_18 (gfit_ok (pI_v hS1).1).1 (gfit_ok (pI_v hS1).1).2 (pI_v hS1).2 ?_
  refine g_aload_n C dX3_remove_21 rfl 0 rfl ?_
  obtain ⟨v2, hv2, hd⟩ := Option.bind_eq_some_iff.mp hd
  refine g_fld C gk_X3 (k := 0) (by decide) q1966 (Or.inl rfl) dX3_remove_22 (gI_v hv2) ?_
  refine g_if_le (tgt := 30) C dX3_remove_25 (by decide) hd (fun hd => ?_) (fun hd => ?_)
  · refine g_aload_n C dX3_remove_30 rfl 0 rfl ?_
    refine g_aload_n C dX3_remove_31 rfl 0 rfl ?_
    refine g_iload_n C dX3_remove_32 rfl 1 rfl ?_
    obtain ⟨hg, hd⟩ := gd_some hd
    obtain ⟨v4, S3, hc, hd⟩ := bn_some hd
    refine g_cV_v (n := 1) C (gk_X3).1 q2135 q2137 qs55 q108 q2138 (by decide +kernel) (by decide) (by decide) dX3_remove_33 (As := [vI x1]) (rest := [vR x0]) rfl rfl (Nat.le_of_ble_eq_true rfl) hg (m_X3_over E hc) ?_
    refine g_iconst (v := 2) C dX3_remove_36 (by decide) ?_
    refine g_iload_n C dX3_remove_37 rfl 1 rfl ?_
    obtain ⟨hg, hd⟩ := gd_some hd
    obtain ⟨_, S5, hc, hd⟩ := bn_some hd
    refine g_cV_n (n := 3) C (gk_X3).1 q2143 q2145 qs57 q108 q2146 (by decide +kernel) (by decide) (by decide) dX3_remove_38 (As := [vI v4, vI (2 : Int32), vI x1]) (rest := []) rfl rfl (Nat.le_of_ble_eq_true rfl) hg (m_X3_comes E hc) ?_
    refine g_iconst (v := 0) C dX3_remove_41 (by decide) ?_
    refine g_istore_n (L' := [(2, vI (0 : Int32)), (0, vR x0), (1, vI x1)]) C dX3_remove_42 rfl (by decide) rfl ?_
    refine g_iconst (v := 0) C dX3_remove_43 (by decide) ?_
    refine g_istore_n (L' := [(3, vI (0 : Int32)), (2, vI (0 : Int32)), (0, vR x0), (1, vI x1)]) C dX3_remove_44 rfl (by decide) rfl ?_
    refine g_sub [2, 3, 1, 0] rfl ?_
    exact w_X3_remove_b45 C E Q FU _ _ _ _ _ hd
  · refine g_iconst (v := 0) C dX3_remove_28 (by decide) ?_
    exact g_iret C Q hd dX3_remove_29
theorem w_X3_remove_b17 {K : KT} {r : Int32} {S1 : St} (C : GC K RX3 cX3_remove 5 4 []) (E : EH (kΓ K) (kHI K) (kl K)) (Q : GQ K (some (Jvm.ClassFile.FieldType.int)) (.inl (some (vI r))) S1) : ∀ (S : St) (x0 : Option Nat) (x1 : Int32) (y0 : Option Nat), n_X3_remove_b17 S x0 x1 y0 = some (r, S1) → G K 5 S 17 [(0, vR x0), (1, vI x1)] [vR y0] := by
  intro S x0 x1 y0 hd
  unfold n_X3_remove_b17 at hd
  refine g_iconst (v := 1) C dX3_remove_17 (by decide) ?_
  refine g_sub [0, 1] rfl ?_
  exact w_X3_remove_b18 C E Q _ _ _ _ _ hd
theorem w_X3_remove_b0m {K : KT} {r : Int32} {S1 : St} (C : GC K RX3 cX3_remove 5 4 []) (E : EH (kΓ K) (kHI K) (kl K)) (Q : GQ K (some (Jvm.ClassFile.FieldType.int)) (.inl (some (vI r))) S1) : ∀ (S : St) (x0 : Option Nat) (x1 : Int32), n_X3_remove S x0 x1 = some (r, S1) → G K 5 S 0 [(0, vR x0), (1, vI x1)] [] := by
  intro S x0 x1 hd
  unfold n_X3_remove at hd
  refine g_aload_n C dX3_remove_0 rfl 0 rfl ?_
  refine g_aload_n C dX3_remove_1 rfl 0 rfl ?_
  refine g_iload_n C dX3_remove_2 rfl 1 rfl ?_
  obtain ⟨hg, hd⟩ := gd_some hd
  obtain ⟨v2, S1, hc, hd⟩ := bn_some hd
  refine g_cV_v (n := 1) C (gk_X3).1 q2120 q2122 qs52 q108 q2123 (by decide +kernel) (by decide) (by decide) dX3_remove_3 (As := [vI x1]) (rest := [vR x0]) rfl rfl (Nat.le_of_ble_eq_true rfl) hg (m_X3_isNode E hc) ?_
  refine g_if_eq (tgt := 17) C dX3_remove_6 (by decide) hd (fun hd => ?_) (fun hd => ?_)
  · refine g_sub [0, 1] rfl ?_
    exact w_X3_remove_b17 C E Q _ _ _ _ hd
  · refine g_iload_n C dX3_remove_9 rfl 1 rfl ?_
    refine g_if_eq (tgt := 17) C dX3_remove_10 (by decide) hd (fun hd => ?_) (fun hd => ?_)
    · refine g_sub [0, 1] rfl ?_
      exact w_X3_remove_b17 C E Q _ _ _ _ hd
    · refine g_iconst (v := 0) C dX3_remove_13 (by decide) ?_
      refine g_goto (tgt := 18) C dX3_remove_14 (by decide) ?_
      refine g_sub [0, 1] rfl ?_
      exact w_X3_remove_b18 C E Q _ _ _ _ _ hd
theorem m_X3_remove {Γ : GG} {HI : St → Heap → Prop} {l : Launch} (E : EH Γ HI l) {S : St} {a0 : Option Nat} {a1 : Int32} {r : Int32} {S1 : St} (h : n_X3_remove S a0 a1 = some (r, S1)) : MS Γ HI l yX3_remove cX3_remove 5 (some (Jvm.ClassFile.FieldType.int)) 4 S [vR a0, vI a1] (.inl (some (vI r))) S1 := by
  refine MS_of E.ntr E.hx (by decide +kernel) rfl (Nat.le_of_ble_eq_true rfl) fun K e1 e2 e3 e4 hnm C Q => ?_
  subst e1; subst e2; subst e3
  exact w_X3_remove_b0m C E Q S a0 a1 h

def n_X3_lock_b14 (S : St) (x0 : Option Nat) (x1 : Int32) (x2 : Int32) (y0 : Int32) (y1 : Option Nat) : Option (Int32 × St) :=
  (pI .int S y1 15 0 y0).bind fun S1 =>
  (gI S1 x0 15 0).bind fun v2 =>
  if v2 ≤ 0 then
    (gR S1 x0 15 10).bind fun v3 =>
    (aI S1 v3 1 x1).bind fun v4 =>
    (gR S1 x0 15 10).bind fun v5 =>
    (sI S1 v5 1 x1 x2).bind fun S6 =>
    rtI id (Jvm.ClassFile.FieldType.boolean) v4 S6
  else
    rtI id (Jvm.ClassFile.FieldType.boolean) (0 : Int32) S1
def n_X3_lock (S : St) (x0 : Option Nat) (x1 : Int32) (x2 : Int32) : Option (Int32 × St) :=
  gd (grc S x0 15) <|
  bn (n_X3_isFileAt S x0 x1) fun v2 S1 =>
  if v2 = 0 then
    n_X3_lock_b14 S1 x0 x1 x2 (1 : Int32) x0
  else
    n_X3_lock_b14 S1 x0 x1 x2 (0 : Int32) x0
theorem w_X3_lock_b14 {K : KT} {r : Int32} {S1 : St} (C : GC K RX3 cX3_lock 4 5 []) (E : EH (kΓ K) (kHI K) (kl K)) (Q : GQ K (some (Jvm.ClassFile.FieldType.boolean)) (.inl (some (vI r))) S1) : ∀ (S : St) (x0 : Option Nat) (x1 : Int32) (x2 : Int32) (y0 : Int32) (y1 : Option Nat), n_X3_lock_b14 S x0 x1 x2 y0 y1 = some (r, S1) → G K 4 S 14 [(0, vR x0), (1, vI x1), (2, vI x2)] [vI y0, vR y1] := by
  intro S x0 x1 x2 y0 y1 hd
  unfold n_X3_lock_b14 at hd
  obtain ⟨S1, hS1, hd⟩ := Option.bind_eq_some_iff.mp hd
  refine g_put C gk_X3 (k := 0) (by decide) q1966 (Or.inl rfl) rfl dX3_lock_14 (gfit_ok (pI_v hS1).1).1 (gfit_ok (pI_v hS1).1).2 (pI_v hS1).2 ?_
  refine g_aload_n C dX3_lock_17 rfl 0 rfl ?_
  obtain ⟨v2, hv2, hd⟩ := Option.bind_eq_some_iff.mp hd
  refine g_fld C gk_X3 (k := 0) (by decide) q1966 (Or.inl rfl) dX3_lock_18 (gI_v hv2) ?_
  refine g_if_le (tgt := 26) C dX3_lock_21 (by decide) hd (fun hd => ?_) (fun hd => ?_)
  · refine g_aload_n C dX3_lock_26 rfl 0 rfl ?_
    obtain ⟨v3, hv3, hd⟩ := Option.bind_eq_some_iff.mp hd
    refine g_fld C gk_X3 (k := 10) (by decide) q1976 (Or.inl rfl) dX3_lock_27 (gR_v hv3) ?_
    refine g_iload_n C dX3_lock_30 rfl 1 rfl ?_
    obtain ⟨v4, hv4, hd⟩ := Option.bind_eq_some_iff.mp hd
    refine g_zaldV C dX3_lock_31 hv4 ?_
    refine g_istore_n (L' := [(3, vI v4), (0, vR x0), (1, vI x1), (2, vI x2)]) C dX3_lock_32 rfl (by decide) rfl ?_
    refine g_aload_n C dX3_lock_33 rfl 1 rfl ?_
    obtain ⟨v5, hv5, hd⟩ := Option.bind_eq_some_iff.mp hd
    refine g_fld C gk_X3 (k := 10) (by decide) q1976 (Or.inl rfl) dX3_lock_34 (gR_v hv5) ?_
    refine g_iload_n C dX3_lock_37 rfl 2 rfl ?_
    refine g_iload_n C dX3_lock_38 rfl 3 rfl ?_
    obtain ⟨S6, hS6, hd⟩ := Option.bind_eq_some_iff.mp hd
    refine g_zastV C dX3_lock_39 hS6 ?_
    refine g_iload_n C dX3_lock_40 rfl 0 rfl ?_
    exact g_iret C Q hd dX3_lock_41
  · refine g_iconst (v := 0) C dX3_lock_24 (by decide) ?_
    exact g_iret C Q hd dX3_lock_25
theorem w_X3_lock_b0m {K : KT} {r : Int32} {S1 : St} (C : GC K RX3 cX3_lock 4 5 []) (E : EH (kΓ K) (kHI K) (kl K)) (Q : GQ K (some (Jvm.ClassFile.FieldType.boolean)) (.inl (some (vI r))) S1) : ∀ (S : St) (x0 : Option Nat) (x1 : Int32) (x2 : Int32), n_X3_lock S x0 x1 x2 = some (r, S1) → G K 4 S 0 [(0, vR x0), (1, vI x1), (2, vI x2)] [] := by
  intro S x0 x1 x2 hd
  unfold n_X3_lock at hd
  refine g_aload_n C dX3_lock_0 rfl 0 rfl ?_
  refine g_aload_n C dX3_lock_1 rfl 0 rfl ?_
  refine g_iload_n C dX3_lock_2 rfl 1 rfl ?_
  obtain ⟨hg, hd⟩ := gd_some hd
  obtain ⟨v2, S1, hc, hd⟩ := bn_some hd
  refine g_cV_v (n := 1) C (gk_X3).1 q2151 q2153 qs58 q108 q2154 (by decide +kernel) (by decide) (by decide) dX3_lock_3 (As := [vI x1]) (rest := [vR x0]) rfl rfl (Nat.le_of_ble_eq_true rfl) hg (m_X3_isFileAt E hc) ?_
  refine g_if_eq (tgt := 13) C dX3_lock_6 (by decide) hd (fun hd => ?_) (fun hd => ?_)
  · refine g_iconst (v := 1) C dX3_lock_13 (by decide) ?_
    refine g_sub [0, 1, 2] rfl ?_
    exact w_X3_lock_b14 C E Q _ _ _ _ _ _ hd
  · refine g_iconst (v := 0) C dX3_lock_9 (by decide) ?_
    refine g_goto (tgt := 14) C dX3_lock_10 (by decide) ?_
    refine g_sub [0, 1, 2] rfl ?_
    exact w_X3_lock_b14 C E Q _ _ _ _ _ _ hd
theorem m_X3_lock {Γ : GG} {HI : St → Heap → Prop} {l : Launch} (E : EH Γ HI l) {S : St} {a0 : Option Nat} {a1 : Int32} {a2 : Int32} {r : Int32} {S1 : St} (h : n_X3_lock S a0 a1 a2 = some (r, S1)) : MS Γ HI l yX3_lock cX3_lock 4 (some (Jvm.ClassFile.FieldType.boolean)) 5 S [vR a0, vI a1, vI a2] (.inl (some (vI r))) S1 := by
  refine MS_of E.ntr E.hx (by decide +kernel) rfl (Nat.le_of_ble_eq_true rfl) fun K e1 e2 e3 e4 hnm C Q => ?_
  subst e1; subst e2; subst e3
  exact w_X3_lock_b0m C E Q S a0 a1 a2 h

def n_X3_people_b28 (S : St) (x0 : Option Nat) (x1 : Int32) (x2 : Int32) (y0 : Int32) (y1 : Option Nat) : Option (Int32 × St) :=
  (pI .int S y1 15 0 y0).bind fun S1 =>
  (gI S1 x0 15 0).bind fun v2 =>
  if v2 ≤ 0 then
    (gR S1 x0 15 11).bind fun v3 =>
    (aI S1 v3 0 x1).bind fun v4 =>
    (gR S1 x0 15 11).bind fun v5 =>
    (sI S1 v5 0 x1 x2).bind fun S6 =>
    rtI id (Jvm.ClassFile.FieldType.int) v4 S6
  else
    rtI id (Jvm.ClassFile.FieldType.int) (0 : Int32) S1
def n_X3_people (S : St) (x0 : Option Nat) (x1 : Int32) (x2 : Int32) : Option (Int32 × St) :=
  gd (grc S x0 15) <|
  bn (n_X3_isNode S x0 x1) fun v2 S1 =>
  if v2 = 0 then
    n_X3_people_b28 S1 x0 x1 x2 (1 : Int32) x0
  else
    bn (n_X3_in S1 x2 (0 : Int32) (15 : Int32)) fun v4 S3 =>
    if v4 = 0 then
      n_X3_people_b28 S3 x0 x1 x2 (2 : Int32) x0
    else
      n_X3_people_b28 S3 x0 x1 x2 (0 : Int32) x0
theorem w_X3_people_b28 {K : KT} {r : Int32} {S1 : St} (C : GC K RX3 cX3_people 4 4 []) (E : EH (kΓ K) (kHI K) (kl K)) (Q : GQ K (some (Jvm.ClassFile.FieldType.int)) (.inl (some (vI r))) S1) : ∀ (S : St) (x0 : Option Nat) (x1 : Int32) (x2 : Int32) (y0 : Int32) (y1 : Option Nat), n_X3_people_b28 S x0 x1 x2 y0 y1 = some (r, S1) → G K 4 S 28 [(0, vR x0), (1, vI x1), (2, vI x2)] [vI y0, vR y1] := by
  intro S x0 x1 x2 y0 y1 hd
  unfold n_X3_people_b28 at hd
  obtain ⟨S1, hS1, hd⟩ := Option.bind_eq_some_iff.mp hd
  refine g_put C gk_X3 (k := 0) (by decide) q1966 (Or.inl rfl) rfl dX3_people_28 (gfit_ok (pI_v hS1).1).1 (gfit_ok (pI_v hS1).1).2 (pI_v hS1).2 ?_
  refine g_aload_n C dX3_people_31 rfl 0 rfl ?_
  obtain ⟨v2, hv2, hd⟩ := Option.bind_eq_some_iff.mp hd
  refine g_fld C gk_X3 (k := 0) (by decide) q1966 (Or.inl rfl) dX3_people_32 (gI_v hv2) ?_
  refine g_if_le (tgt := 40) C dX3_people_35 (by decide) hd (fun hd => ?_) (fun hd => ?_)
  · refine g_aload_n C dX3_people_40 rfl 0 rfl ?_
    obtain ⟨v3, hv3, hd⟩ := Option.bind_eq_some_iff.mp hd
    refine g_fld C gk_X3 (k := 11) (by decide) q1977 (Or.inl rfl) dX3_people_41 (gR_v hv3) ?_
    refine g_iload_n C dX3_people_44 rfl 1 rfl ?_
    obtain ⟨v4, hv4, hd⟩ := Option.bind_eq_some_iff.mp hd
    refine g_ialdV C dX3_people_45 hv4 ?_
    refine g_istore_n (L' := [(3, vI v4), (0, vR x0), (1, vI x1), (2, vI x2)]) C dX3_people_46 rfl (by decide) rfl ?_
    refine g_aload_n C dX3_people_47 rfl 1 rfl ?_
    obtain ⟨v5, hv5, hd⟩ := Option.bind_eq_some_iff.mp hd
    refine g_fld C gk_X3 (k := 11) (by decide) q1977 (Or.inl rfl) dX3_people_48 (gR_v hv5) ?_
    refine g_iload_n C dX3_people_51 rfl 2 rfl ?_
    refine g_iload_n C dX3_people_52 rfl 3 rfl ?_
    obtain ⟨S6, hS6, hd⟩ := Option.bind_eq_some_iff.mp hd
    refine g_iastV C dX3_people_53 hS6 ?_
    refine g_iload_n C dX3_people_54 rfl 0 rfl ?_
    exact g_iret C Q hd dX3_people_55
  · refine g_iconst (v := 0) C dX3_people_38 (by decide) ?_
    exact g_iret C Q hd dX3_people_39
theorem w_X3_people_b0m {K : KT} {r : Int32} {S1 : St} (C : GC K RX3 cX3_people 4 4 []) (E : EH (kΓ K) (kHI K) (kl K)) (Q : GQ K (some (Jvm.ClassFile.FieldType.int)) (.inl (some (vI r))) S1) : ∀ (S : St) (x0 : Option Nat) (x1 : Int32) (x2 : Int32), n_X3_people S x0 x1 x2 = some (r, S1) → G K 4 S 0 [(0, vR x0), (1, vI x1), (2, vI x2)] [] := by
  intro S x0 x1 x2 hd
  unfold n_X3_people at hd
  refine g_aload_n C dX3_people_0 rfl 0 rfl ?_
  refine g_aload_n C dX3_people_1 rfl 0 rfl ?_
  refine g_iload_n C dX3_people_2 rfl 1 rfl ?_
  obtain ⟨hg, hd⟩ := gd_some hd
  obtain ⟨v2, S1, hc, hd⟩ := bn_some hd
  refine g_cV_v (n := 1) C (gk_X3).1 q2120 q2122 qs52 q108 q2123 (by decide +kernel) (by decide) (by decide) dX3_people_3 (As := [vI x1]) (rest := [vR x0]) rfl rfl (Nat.le_of_ble_eq_true rfl) hg (m_X3_isNode E hc) ?_
  refine g_if_ne (tgt := 13) C dX3_people_6 (by decide) hd (fun hd => ?_) (fun hd => ?_)
  · refine g_iload_n C dX3_people_13 rfl 2 rfl ?_
    refine g_iconst (v := 0) C dX3_people_14 (by decide) ?_
    refine g_bipush (v := 15) C dX3_people_15 (by decide) ?_
    obtain ⟨v4, S3, hc, hd⟩ := bn_some hd
    refine g_cS_v (n := 3) C q2124 q2125 q108 q2126 (by decide +kernel) (by decide) (by decide) dX3_people_17 (As := [vI x2, vI (0 : Int32), vI (15 : Int32)]) (rest := [vR x0]) rfl rfl (Nat.le_of_ble_eq_true rfl) (m_X3_in E hc) ?_
    refine g_if_eq (tgt := 27) C dX3_people_20 (by decide) hd (fun hd => ?_) (fun hd => ?_)
    · refine g_iconst (v := 2) C dX3_people_27 (by decide) ?_
      refine g_sub [0, 1, 2] rfl ?_
      exact w_X3_people_b28 C E Q _ _ _ _ _ _ hd
    · refine g_iconst (v := 0) C dX3_people_23 (by decide) ?_
      refine g_goto (tgt := 28) C dX3_people_24 (by decide) ?_
      refine g_sub [0, 1, 2] rfl ?_
      exact w_X3_people_b28 C E Q _ _ _ _ _ _ hd
  · refine g_iconst (v := 1) C dX3_people_9 (by decide) ?_
    refine g_goto (tgt := 28) C dX3_people_10 (by decide) ?_
    refine g_sub [0, 1, 2] rfl ?_
    exact w_X3_people_b28 C E Q _ _ _ _ _ _ hd
theorem m_X3_people {Γ : GG} {HI : St → Heap → Prop} {l : Launch} (E : EH Γ HI l) {S : St} {a0 : Option Nat} {a1 : Int32} {a2 : Int32} {r : Int32} {S1 : St} (h : n_X3_people S a0 a1 a2 = some (r, S1)) : MS Γ HI l yX3_people cX3_people 4 (some (Jvm.ClassFile.FieldType.int)) 4 S [vR a0, vI a1, vI a2] (.inl (some (vI r))) S1 := by
  refine MS_of E.ntr E.hx (by decide +kernel) rfl (Nat.le_of_ble_eq_true rfl) fun K e1 e2 e3 e4 hnm C Q => ?_
  subst e1; subst e2; subst e3
  exact w_X3_people_b0m C E Q S a0 a1 a2 h

def n_X3_mayReadAt_b35 (k5 : St → Option Nat → Int32 → Int32 → Int32 → Option (Int32 × St)) (S : St) (x0 : Option Nat) (x1 : Int32) (x4 : Int32) (y0 : Int32) : Option (Int32 × St) :=
  (gR S x0 15 5).bind fun v1 =>
  (aI S v1 0 x4).bind fun v2 =>
  k5 S x0 x1 y0 v2
def n_X3_mayReadAt_b34 (k5 : St → Option Nat → Int32 → Int32 → Int32 → Option (Int32 × St)) (S : St) (x0 : Option Nat) (x1 : Int32) (x4 : Int32) : Option (Int32 × St) :=
  n_X3_mayReadAt_b35 k5 S x0 x1 x4 (0 : Int32)
def n_X3_mayReadAt_b5 : Nat → St → Option Nat → Int32 → Int32 → Int32 → Option (Int32 × St)
  | 0 => fun _ _ _ _ _ => none
  | n + 1 => fun S x0 x1 x3 x4 =>
    if x4 = (-1 : Int32) then
      rtI id (Jvm.ClassFile.FieldType.boolean) x3 S
    else
      if x3 = 0 then
        n_X3_mayReadAt_b34 (n_X3_mayReadAt_b5 n) S x0 x1 x4
      else
        (gR S x0 15 11).bind fun v1 =>
        (aI S v1 0 x4).bind fun v2 =>
        if ((v2 >>> (x1 &&& 31)) &&& (1 : Int32)) = (1 : Int32) then
          n_X3_mayReadAt_b35 (n_X3_mayReadAt_b5 n) S x0 x1 x4 (1 : Int32)
        else
          n_X3_mayReadAt_b34 (n_X3_mayReadAt_b5 n) S x0 x1 x4
def n_X3_mayReadAt (S : St) (x0 : Option Nat) (x1 : Int32) (x2 : Int32) : Option (Int32 × St) :=
  n_X3_mayReadAt_b5 FU S x0 x1 (1 : Int32) x2
theorem w_X3_mayReadAt_b35 {K : KT} {r : Int32} {S1 : St} (C : GC K RX3 cX3_mayReadAt 5 2 []) (E : EH (kΓ K) (kHI K) (kl K)) (Q : GQ K (some (Jvm.ClassFile.FieldType.boolean)) (.inl (some (vI r))) S1) {k5 : St → Option Nat → Int32 → Int32 → Int32 → Option (Int32 × St)} (h5 : ∀ (S : St) (x0 : Option Nat) (x1 : Int32) (x3 : Int32) (x4 : Int32), k5 S x0 x1 x3 x4 = some (r, S1) → G K 5 S 5 [(0, vR x0), (1, vI x1), (3, vI x3), (4, vI x4)] []) : ∀ (S : St) (x0 : Option Nat) (x1 : Int32) (x4 : Int32) (y0 : Int32), n_X3_mayReadAt_b35 k5 S x0 x1 x4 y0 = some (r, S1) → G K 5 S 35 [(0, vR x0), (1, vI x1), (4, vI x4)] [vI y0] := by
  intro S x0 x1 x4 y0 hd
  unfold n_X3_mayReadAt_b35 at hd
  refine g_istore_n (L' := [(3, vI y0), (0, vR x0), (1, vI x1), (4, vI x4)]) C dX3_mayReadAt_35 rfl (by decide) rfl ?_
  refine g_aload_n C dX3_mayReadAt_36 rfl 1 rfl ?_
  obtain ⟨v1, hv1, hd⟩ := Option.bind_eq_some_iff.mp hd
  refine g_fld C gk_X3 (k := 5) (by decide) q1971 (Or.inl rfl) dX3_mayReadAt_37 (gR_v hv1) ?_
  refine g_iload C dX3_mayReadAt_40 3 rfl ?_
  obtain ⟨v2, hv2, hd⟩ := Option.bind_eq_some_iff.mp hd
  refine g_ialdV C dX3_mayReadAt_42 hv2 ?_
  refine g_istore (L' := [(4, vI v2), (3, vI y0), (0, vR x0), (1, vI x1)]) C dX3_mayReadAt_43 (by decide) rfl ?_
  refine g_goto (tgt := 5) C dX3_mayReadAt_45 (by decide) ?_
  refine g_sub [2, 3, 1, 0] rfl ?_
  exact h5 _ _ _ _ _ hd
theorem w_X3_mayReadAt_b34 {K : KT} {r : Int32} {S1 : St} (C : GC K RX3 cX3_mayReadAt 5 2 []) (E : EH (kΓ K) (kHI K) (kl K)) (Q : GQ K (some (Jvm.ClassFile.FieldType.boolean)) (.inl (some (vI r))) S1) {k5 : St → Option Nat → Int32 → Int32 → Int32 → Option (Int32 × St)} (h5 : ∀ (S : St) (x0 : Option Nat) (x1 : Int32) (x3 : Int32) (x4 : Int32), k5 S x0 x1 x3 x4 = some (r, S1) → G K 5 S 5 [(0, vR x0), (1, vI x1), (3, vI x3), (4, vI x4)] []) : ∀ (S : St) (x0 : Option Nat) (x1 : Int32) (x4 : Int32), n_X3_mayReadAt_b34 k5 S x0 x1 x4 = some (r, S1) → G K 5 S 34 [(0, vR x0), (1, vI x1), (4, vI x4)] [] := by
  intro S x0 x1 x4 hd
  unfold n_X3_mayReadAt_b34 at hd
  refine g_iconst (v := 0) C dX3_mayReadAt_34 (by decide) ?_
  refine g_sub [0, 1, 2] rfl ?_
  exact w_X3_mayReadAt_b35 C E Q h5 _ _ _ _ _ hd
theorem w_X3_mayReadAt_b5 {K : KT} {r : Int32} {S1 : St} (C : GC K RX3 cX3_mayReadAt 5 2 []) (E : EH (kΓ K) (kHI K) (kl K)) (Q : GQ K (some (Jvm.ClassFile.FieldType.boolean)) (.inl (some (vI r))) S1) : ∀ (n : Nat) (S : St) (x0 : Option Nat) (x1 : Int32) (x3 : Int32) (x4 : Int32), n_X3_mayReadAt_b5 n S x0 x1 x3 x4 = some (r, S1) → G K 5 S 5 [(0, vR x0), (1, vI x1), (3, vI x3), (4, vI x4)] [] := by
  intro n
  induction n with
  | zero => intro S x0 x1 x3 x4 hd; cases hd
  | succ n ih =>
    intro S x0 x1 x3 x4 hd
    unfold n_X3_mayReadAt_b5 at hd
    refine g_iload C dX3_mayReadAt_5 3 rfl ?_
    refine g_iconst (v := (-1)) C dX3_mayReadAt_7 (by decide) ?_
    refine g_icmp_eq (tgt := 48) C dX3_mayReadAt_8 (by decide) hd (fun hd => ?_) (fun hd => ?_)
    · refine g_iload_n C dX3_mayReadAt_48 rfl 2 rfl ?_
      exact g_iret C Q hd dX3_mayReadAt_49
    · refine g_iload_n C dX3_mayReadAt_11 rfl 2 rfl ?_
      refine g_if_eq (tgt := 34) C dX3_mayReadAt_12 (by decide) hd (fun hd => ?_) (fun hd => ?_)
      · refine g_sub [0, 1, 3] rfl ?_
        exact w_X3_mayReadAt_b34 C E Q ih _ _ _ _ hd
      · refine g_aload_n C dX3_mayReadAt_15 rfl 0 rfl ?_
        obtain ⟨v1, hv1, hd⟩ := Option.bind_eq_some_iff.mp hd
        refine g_fld C gk_X3 (k := 11) (by decide) q1977 (Or.inl rfl) dX3_mayReadAt_16 (gR_v hv1) ?_
        refine g_iload C dX3_mayReadAt_19 3 rfl ?_
        obtain ⟨v2, hv2, hd⟩ := Option.bind_eq_some_iff.mp hd
        refine g_ialdV C dX3_mayReadAt_21 hv2 ?_
        refine g_iload_n C dX3_mayReadAt_22 rfl 1 rfl ?_
        refine g_ishr C dX3_mayReadAt_23 ?_
        refine g_iconst (v := 1) C dX3_mayReadAt_24 (by decide) ?_
        refine g_iand C dX3_mayReadAt_25 ?_
        refine g_iconst (v := 1) C dX3_mayReadAt_26 (by decide) ?_
        refine g_icmp_ne (tgt := 34) C dX3_mayReadAt_27 (by decide) hd (fun hd => ?_) (fun hd => ?_)
        · refine g_sub [0, 1, 3] rfl ?_
          exact w_X3_mayReadAt_b34 C E Q ih _ _ _ _ hd
        · refine g_iconst (v := 1) C dX3_mayReadAt_30 (by decide) ?_
          refine g_goto (tgt := 35) C dX3_mayReadAt_31 (by decide) ?_
          refine g_sub [0, 1, 3] rfl ?_
          exact w_X3_mayReadAt_b35 C E Q ih _ _ _ _ _ hd
theorem w_X3_mayReadAt_b0m {K : KT} {r : Int32} {S1 : St} (C : GC K RX3 cX3_mayReadAt 5 2 []) (E : EH (kΓ K) (kHI K) (kl K)) (Q : GQ K (some (Jvm.ClassFile.FieldType.boolean)) (.inl (some (vI r))) S1) : ∀ (S : St) (x0 : Option Nat) (x1 : Int32) (x2 : Int32), n_X3_mayReadAt S x0 x1 x2 = some (r, S1) → G K 5 S 0 [(0, vR x0), (1, vI x1), (2, vI x2)] [] := by
  intro S x0 x1 x2 hd
  unfold n_X3_mayReadAt at hd
  refine g_iconst (v := 1) C dX3_mayReadAt_0 (by decide) ?_
  refine g_istore_n (L' := [(3, vI (1 : Int32)), (0, vR x0), (1, vI x1), (2, vI x2)]) C dX3_mayReadAt_1 rfl (by decide) rfl ?_
  refine g_iload_n C dX3_mayReadAt_2 rfl 3 rfl ?_
  refine g_istore (L' := [(4, vI x2), (3, vI (1 : Int32)), (0, vR x0), (1, vI x1), (2, vI x2)]) C dX3_mayReadAt_3 (by decide) rfl ?_
  refine g_sub [2, 3, 1, 0] rfl ?_
  exact w_X3_mayReadAt_b5 C E Q FU _ _ _ _ _ hd
theorem m_X3_mayReadAt {Γ : GG} {HI : St → Heap → Prop} {l : Launch} (E : EH Γ HI l) {S : St} {a0 : Option Nat} {a1 : Int32} {a2 : Int32} {r : Int32} {S1 : St} (h : n_X3_mayReadAt S a0 a1 a2 = some (r, S1)) : MS Γ HI l yX3_mayReadAt cX3_mayReadAt 5 (some (Jvm.ClassFile.FieldType.boolean)) 2 S [vR a0, vI a1, vI a2] (.inl (some (vI r))) S1 := by
  refine MS_of E.ntr E.hx (by decide +kernel) rfl (Nat.le_of_ble_eq_true rfl) fun K e1 e2 e3 e4 hnm C Q => ?_
  subst e1; subst e2; subst e3
  exact w_X3_mayReadAt_b0m C E Q S a0 a1 a2 h

def n_X3_mayRead_b23 (S : St) (x0 : Option Nat) (x1 : Int32) (x2 : Int32) (y0 : Int32) (y1 : Option Nat) : Option (Int32 × St) :=
  (pI .int S y1 15 0 y0).bind fun S1 =>
  (gI S1 x0 15 0).bind fun v2 =>
  if v2 = 0 then
    gd (grc S1 x0 15) <|
    bn (n_X3_mayReadAt S1 x0 x1 x2) fun v4 S3 =>
    if v4 = 0 then
      rtI id (Jvm.ClassFile.FieldType.boolean) (0 : Int32) S3
    else
      rtI id (Jvm.ClassFile.FieldType.boolean) (1 : Int32) S3
  else
    rtI id (Jvm.ClassFile.FieldType.boolean) (0 : Int32) S1
def n_X3_mayRead_b22 (S : St) (x0 : Option Nat) (x1 : Int32) (x2 : Int32) (y0 : Option Nat) : Option (Int32 × St) :=
  n_X3_mayRead_b23 S x0 x1 x2 (1 : Int32) y0
def n_X3_mayRead (S : St) (x0 : Option Nat) (x1 : Int32) (x2 : Int32) : Option (Int32 × St) :=
  bn (n_X3_in S x1 (0 : Int32) (3 : Int32)) fun v2 S1 =>
  if v2 = 0 then
    n_X3_mayRead_b22 S1 x0 x1 x2 x0
  else
    gd (grc S1 x0 15) <|
    bn (n_X3_isNode S1 x0 x2) fun v4 S3 =>
    if v4 = 0 then
      n_X3_mayRead_b22 S3 x0 x1 x2 x0
    else
      n_X3_mayRead_b23 S3 x0 x1 x2 (0 : Int32) x0
theorem w_X3_mayRead_b23 {K : KT} {r : Int32} {S1 : St} (C : GC K RX3 cX3_mayRead 3 4 []) (E : EH (kΓ K) (kHI K) (kl K)) (Q : GQ K (some (Jvm.ClassFile.FieldType.boolean)) (.inl (some (vI r))) S1) : ∀ (S : St) (x0 : Option Nat) (x1 : Int32) (x2 : Int32) (y0 : Int32) (y1 : Option Nat), n_X3_mayRead_b23 S x0 x1 x2 y0 y1 = some (r, S1) → G K 3 S 23 [(0, vR x0), (1, vI x1), (2, vI x2)] [vI y0, vR y1] := by
  intro S x0 x1 x2 y0 y1 hd
  unfold n_X3_mayRead_b23 at hd
  obtain ⟨S1, hS1, hd⟩ := Option.bind_eq_some_iff.mp hd
  refine g_put C gk_X3 (k := 0) (by decide) q1966 (Or.inl rfl) rfl dX3_mayRead_23 (gfit_ok (pI_v hS1).1).1 (gfit_ok (pI_v hS1).1).2 (pI_v hS1).2 ?_
  refine g_aload_n C dX3_mayRead_26 rfl 0 rfl ?_
  obtain ⟨v2, hv2, hd⟩ := Option.bind_eq_some_iff.mp hd
  refine g_fld C gk_X3 (k := 0) (by decide) q1966 (Or.inl rfl) dX3_mayRead_27 (gI_v hv2) ?_
  refine g_if_ne (tgt := 46) C dX3_mayRead_30 (by decide) hd (fun hd => ?_) (fun hd => ?_)
  · refine g_iconst (v := 0) C dX3_mayRead_46 (by decide) ?_
    exact g_iret C Q hd dX3_mayRead_47
  · refine g_aload_n C dX3_mayRead_33 rfl 0 rfl ?_
    refine g_iload_n C dX3_mayRead_34 rfl 1 rfl ?_
    refine g_iload_n C dX3_mayRead_35 rfl 2 rfl ?_
    obtain ⟨hg, hd⟩ := gd_some hd
    obtain ⟨v4, S3, hc, hd⟩ := bn_some hd
    refine g_cV_v (n := 2) C (gk_X3).1 q2199 q2201 qs64 q108 q2202 (by decide +kernel) (by decide) (by decide) dX3_mayRead_36 (As := [vI x1, vI x2]) (rest := []) rfl rfl (Nat.le_of_ble_eq_true rfl) hg (m_X3_mayReadAt E hc) ?_
    refine g_if_eq (tgt := 46) C dX3_mayRead_39 (by decide) hd (fun hd => ?_) (fun hd => ?_)
    · refine g_iconst (v := 0) C dX3_mayRead_46 (by decide) ?_
      exact g_iret C Q hd dX3_mayRead_47
    · refine g_iconst (v := 1) C dX3_mayRead_42 (by decide) ?_
      refine g_goto (tgt := 47) C dX3_mayRead_43 (by decide) ?_
      exact g_iret C Q hd dX3_mayRead_47
theorem w_X3_mayRead_b22 {K : KT} {r : Int32} {S1 : St} (C : GC K RX3 cX3_mayRead 3 4 []) (E : EH (kΓ K) (kHI K) (kl K)) (Q : GQ K (some (Jvm.ClassFile.FieldType.boolean)) (.inl (some (vI r))) S1) : ∀ (S : St) (x0 : Option Nat) (x1 : Int32) (x2 : Int32) (y0 : Option Nat), n_X3_mayRead_b22 S x0 x1 x2 y0 = some (r, S1) → G K 3 S 22 [(0, vR x0), (1, vI x1), (2, vI x2)] [vR y0] := by
  intro S x0 x1 x2 y0 hd
  unfold n_X3_mayRead_b22 at hd
  refine g_iconst (v := 1) C dX3_mayRead_22 (by decide) ?_
  refine g_sub [0, 1, 2] rfl ?_
  exact w_X3_mayRead_b23 C E Q _ _ _ _ _ _ hd
theorem w_X3_mayRead_b0m {K : KT} {r : Int32} {S1 : St} (C : GC K RX3 cX3_mayRead 3 4 []) (E : EH (kΓ K) (kHI K) (kl K)) (Q : GQ K (some (Jvm.ClassFile.FieldType.boolean)) (.inl (some (vI r))) S1) : ∀ (S : St) (x0 : Option Nat) (x1 : Int32) (x2 : Int32), n_X3_mayRead S x0 x1 x2 = some (r, S1) → G K 3 S 0 [(0, vR x0), (1, vI x1), (2, vI x2)] [] := by
  intro S x0 x1 x2 hd
  unfold n_X3_mayRead at hd
  refine g_aload_n C dX3_mayRead_0 rfl 0 rfl ?_
  refine g_iload_n C dX3_mayRead_1 rfl 1 rfl ?_
  refine g_iconst (v := 0) C dX3_mayRead_2 (by decide) ?_
  refine g_iconst (v := 3) C dX3_mayRead_3 (by decide) ?_
  obtain ⟨v2, S1, hc, hd⟩ := bn_some hd
  refine g_cS_v (n := 3) C q2124 q2125 q108 q2126 (by decide +kernel) (by decide) (by decide) dX3_mayRead_4 (As := [vI x1, vI (0 : Int32), vI (3 : Int32)]) (rest := [vR x0]) rfl rfl (Nat.le_of_ble_eq_true rfl) (m_X3_in E hc) ?_
  refine g_if_eq (tgt := 22) C dX3_mayRead_7 (by decide) hd (fun hd => ?_) (fun hd => ?_)
  · refine g_sub [0, 1, 2] rfl ?_
    exact w_X3_mayRead_b22 C E Q _ _ _ _ _ hd
  · refine g_aload_n C dX3_mayRead_10 rfl 0 rfl ?_
    refine g_iload_n C dX3_mayRead_11 rfl 2 rfl ?_
    obtain ⟨hg, hd⟩ := gd_some hd
    obtain ⟨v4, S3, hc, hd⟩ := bn_some hd
    refine g_cV_v (n := 1) C (gk_X3).1 q2120 q2122 qs52 q108 q2123 (by decide +kernel) (by decide) (by decide) dX3_mayRead_12 (As := [vI x2]) (rest := [vR x0]) rfl rfl (Nat.le_of_ble_eq_true rfl) hg (m_X3_isNode E hc) ?_
    refine g_if_eq (tgt := 22) C dX3_mayRead_15 (by decide) hd (fun hd => ?_) (fun hd => ?_)
    · refine g_sub [0, 1, 2] rfl ?_
      exact w_X3_mayRead_b22 C E Q _ _ _ _ _ hd
    · refine g_iconst (v := 0) C dX3_mayRead_18 (by decide) ?_
      refine g_goto (tgt := 23) C dX3_mayRead_19 (by decide) ?_
      refine g_sub [0, 1, 2] rfl ?_
      exact w_X3_mayRead_b23 C E Q _ _ _ _ _ _ hd
theorem m_X3_mayRead {Γ : GG} {HI : St → Heap → Prop} {l : Launch} (E : EH Γ HI l) {S : St} {a0 : Option Nat} {a1 : Int32} {a2 : Int32} {r : Int32} {S1 : St} (h : n_X3_mayRead S a0 a1 a2 = some (r, S1)) : MS Γ HI l yX3_mayRead cX3_mayRead 3 (some (Jvm.ClassFile.FieldType.boolean)) 4 S [vR a0, vI a1, vI a2] (.inl (some (vI r))) S1 := by
  refine MS_of E.ntr E.hx (by decide +kernel) rfl (Nat.le_of_ble_eq_true rfl) fun K e1 e2 e3 e4 hnm C Q => ?_
  subst e1; subst e2; subst e3
  exact w_X3_mayRead_b0m C E Q S a0 a1 a2 h

def n_X3_nodes_b32 (k9 : St → Option Nat → Int32 → Int32 → Option (Int32 × St)) (S : St) (x0 : Option Nat) (x2 : Int32) (y0 : Int32) (y1 : Int32) : Option (Int32 × St) :=
  k9 S x0 (y1 + y0) (x2 + 1)
def n_X3_nodes_b9 : Nat → St → Option Nat → Int32 → Int32 → Option (Int32 × St)
  | 0 => fun _ _ _ _ => none
  | n + 1 => fun S x0 x1 x2 =>
    (gI S x0 15 2).bind fun v1 =>
    if v1 ≤ x2 then
      rtI id (Jvm.ClassFile.FieldType.int) x1 S
    else
      (gR S x0 15 3).bind fun v2 =>
      (aI S v2 1 x2).bind fun v3 =>
      if v3 = 0 then
        n_X3_nodes_b32 (n_X3_nodes_b9 n) S x0 x2 (0 : Int32) x1
      else
        n_X3_nodes_b32 (n_X3_nodes_b9 n) S x0 x2 (1 : Int32) x1
def n_X3_nodes (S : St) (x0 : Option Nat) : Option (Int32 × St) :=
  (pI .int S x0 15 0 (0 : Int32)).bind fun S1 =>
  n_X3_nodes_b9 FU S1 x0 (0 : Int32) (0 : Int32)
theorem w_X3_nodes_b32 {K : KT} {r : Int32} {S1 : St} (C : GC K RX3 cX3_nodes 3 2 []) (E : EH (kΓ K) (kHI K) (kl K)) (Q : GQ K (some (Jvm.ClassFile.FieldType.int)) (.inl (some (vI r))) S1) {k9 : St → Option Nat → Int32 → Int32 → Option (Int32 × St)} (h9 : ∀ (S : St) (x0 : Option Nat) (x1 : Int32) (x2 : Int32), k9 S x0 x1 x2 = some (r, S1) → G K 3 S 9 [(0, vR x0), (1, vI x1), (2, vI x2)] []) : ∀ (S : St) (x0 : Option Nat) (x2 : Int32) (y0 : Int32) (y1 : Int32), n_X3_nodes_b32 k9 S x0 x2 y0 y1 = some (r, S1) → G K 3 S 32 [(0, vR x0), (2, vI x2)] [vI y0, vI y1] := by
  intro S x0 x2 y0 y1 hd
  unfold n_X3_nodes_b32 at hd
  refine g_iadd C dX3_nodes_32 ?_
  refine g_istore_n (L' := [(1, vI (y1 + y0)), (0, vR x0), (2, vI x2)]) C dX3_nodes_33 rfl (by decide) rfl ?_
  refine g_iinc (v := x2 + 1) (L' := [(2, vI (x2 + 1)), (1, vI (y1 + y0)), (0, vR x0)]) C dX3_nodes_34 2 rfl rfl (by decide) rfl ?_
  refine g_goto (tgt := 9) C dX3_nodes_37 (by decide) ?_
  refine g_sub [2, 1, 0] rfl ?_
  exact h9 _ _ _ _ hd
theorem w_X3_nodes_b9 {K : KT} {r : Int32} {S1 : St} (C : GC K RX3 cX3_nodes 3 2 []) (E : EH (kΓ K) (kHI K) (kl K)) (Q : GQ K (some (Jvm.ClassFile.FieldType.int)) (.inl (some (vI r))) S1) : ∀ (n : Nat) (S : St) (x0 : Option Nat) (x1 : Int32) (x2 : Int32), n_X3_nodes_b9 n S x0 x1 x2 = some (r, S1) → G K 3 S 9 [(0, vR x0), (1, vI x1), (2, vI x2)] [] := by
  intro n
  induction n with
  | zero => intro S x0 x1 x2 hd; cases hd
  | succ n ih =>
    intro S x0 x1 x2 hd
    unfold n_X3_nodes_b9 at hd
    refine g_iload_n C dX3_nodes_9 rfl 2 rfl ?_
    refine g_aload_n C dX3_nodes_10 rfl 0 rfl ?_
    obtain ⟨v1, hv1, hd⟩ := Option.bind_eq_some_iff.mp hd
    refine g_fld C gk_X3 (k := 2) (by decide) q1968 (Or.inl rfl) dX3_nodes_11 (gI_v hv1) ?_
    refine g_icmp_ge (tgt := 40) C dX3_nodes_14 (by decide) hd (fun hd => ?_) (fun hd => ?_)
    · refine g_iload_n C dX3_nodes_40 rfl 1 rfl ?_
      exact g_iret C Q hd dX3_nodes_41
    · refine g_iload_n C dX3_nodes_17 rfl 1 rfl ?_
      refine g_aload_n C dX3_nodes_18 rfl 0 rfl ?_
      obtain ⟨v2, hv2, hd⟩ := Option.bind_eq_some_iff.mp hd
      refine g_fld C gk_X3 (k := 3) (by decide) q1969 (Or.inl rfl) dX3_nodes_19 (gR_v hv2) ?_
      refine g_iload_n C dX3_nodes_22 rfl 2 rfl ?_
      obtain ⟨v3, hv3, hd⟩ := Option.bind_eq_some_iff.mp hd
      refine g_zaldV C dX3_nodes_23 hv3 ?_
      refine g_if_eq (tgt := 31) C dX3_nodes_24 (by decide) hd (fun hd => ?_) (fun hd => ?_)
      · refine g_iconst (v := 0) C dX3_nodes_31 (by decide) ?_
        refine g_sub [0, 2] rfl ?_
        exact w_X3_nodes_b32 C E Q ih _ _ _ _ _ hd
      · refine g_iconst (v := 1) C dX3_nodes_27 (by decide) ?_
        refine g_goto (tgt := 32) C dX3_nodes_28 (by decide) ?_
        refine g_sub [0, 2] rfl ?_
        exact w_X3_nodes_b32 C E Q ih _ _ _ _ _ hd
theorem w_X3_nodes_b0m {K : KT} {r : Int32} {S1 : St} (C : GC K RX3 cX3_nodes 3 2 []) (E : EH (kΓ K) (kHI K) (kl K)) (Q : GQ K (some (Jvm.ClassFile.FieldType.int)) (.inl (some (vI r))) S1) : ∀ (S : St) (x0 : Option Nat), n_X3_nodes S x0 = some (r, S1) → G K 3 S 0 [(0, vR x0)] [] := by
  intro S x0 hd
  unfold n_X3_nodes at hd
  refine g_aload_n C dX3_nodes_0 rfl 0 rfl ?_
  refine g_iconst (v := 0) C dX3_nodes_1 (by decide) ?_
  obtain ⟨S1, hS1, hd⟩ := Option.bind_eq_some_iff.mp hd
  refine g_put C gk_X3 (k := 0) (by decide) q1966 (Or.inl rfl) rfl dX3_nodes_2 (gfit_ok (pI_v hS1).1).1 (gfit_ok (pI_v hS1).1).2 (pI_v hS1).2 ?_
  refine g_iconst (v := 0) C dX3_nodes_5 (by decide) ?_
  refine g_istore_n (L' := [(1, vI (0 : Int32)), (0, vR x0)]) C dX3_nodes_6 rfl (by decide) rfl ?_
  refine g_iconst (v := 0) C dX3_nodes_7 (by decide) ?_
  refine g_istore_n (L' := [(2, vI (0 : Int32)), (1, vI (0 : Int32)), (0, vR x0)]) C dX3_nodes_8 rfl (by decide) rfl ?_
  refine g_sub [2, 1, 0] rfl ?_
  exact w_X3_nodes_b9 C E Q FU _ _ _ _ hd
theorem m_X3_nodes {Γ : GG} {HI : St → Heap → Prop} {l : Launch} (E : EH Γ HI l) {S : St} {a0 : Option Nat} {r : Int32} {S1 : St} (h : n_X3_nodes S a0 = some (r, S1)) : MS Γ HI l yX3_nodes cX3_nodes 3 (some (Jvm.ClassFile.FieldType.int)) 2 S [vR a0] (.inl (some (vI r))) S1 := by
  refine MS_of E.ntr E.hx (by decide +kernel) rfl (Nat.le_of_ble_eq_true rfl) fun K e1 e2 e3 e4 hnm C Q => ?_
  subst e1; subst e2; subst e3
  exact w_X3_nodes_b0m C E Q S a0 h

