/-! THE SYSTEM: methods as functions, and their walks (written by xparts.py) -/
set_option maxRecDepth 100000
/-! VerbAtDusk$Named.init -/
noncomputable def x9_init (b : Bool) (a0 : Int) (a1 : Int) (s0 : XS) : Option (Int × XS) :=
  gd (isNa (tg b s0 a0)) <|
  gd (0 ≤ a0 ∧ ¬ (1438 ≤ a0 ∧ a0 < 1514)) <|
  gd (¬ a1 = -1) <|
  bnd (ux s0 a0 0 a1) fun s5 =>
  some (0, s5)
theorem mx9_init {b : Bool} {x0 : Nat} {D : XD} {a0 : Int} {a1 : Int} {s0 : XS} {res : Int × XS} (h : x9_init b a0 a1 s0 = some res) (l : Launch) : XMet0 l yX9_init cX9_init 2 none 2 b x0 D [.ref (ad x0 a0), .ref (ad x0 a1)] s0 0 res := by
  refine XMet0.ofn [(0, .ref (ad x0 a0)), (1, .ref (ad x0 a1))] "VerbAtDusk$Named" "<init>" rfl rfl (plainFor_of_name (by decide)) (Nat.le_of_ble_eq_true rfl) rfl ?_
  unfold x9_init at h
  generalize nC s0 = cN
  generalize nS s0 = sN
  refine gx_aload_n 0 0 dX9_init_0 rfl ?_
  refine gx_objInit 1 q894 q195 q196 dX9_init_1 (by decide) (Nat.le_of_ble_eq_true rfl) ?_
  refine gx_aload_n 4 0 dX9_init_4 rfl ?_
  refine gx_aload_n 5 1 dX9_init_5 rfl ?_
  obtain ⟨g2, h⟩ := gd_e h
  obtain ⟨g3, h⟩ := gd_e h
  obtain ⟨g4, h⟩ := gd_e h
  obtain ⟨s5, es5, h⟩ := bnd_e h
  refine gx_putNa 6 rfl rfl g2 g3.1 g3.2 q901 g4 es5 dX9_init_6 ?_
  exact gx_vret 9 dX9_init_9 (rt h)
/-! VerbAtDusk$Saying.init -/
noncomputable def x10_init (b : Bool) (a0 : Int) (a1 : Int) (a2 : Int) (a3 : Int) (a4 : Int) (s0 : XS) : Option (Int × XS) :=
  Option.bind (x9_init b a0 a1 s0) fun z5 =>
  gd (tg b z5.2 a0 = 9) <|
  gd (0 ≤ a0 ∧ ¬ (1438 ≤ a0 ∧ a0 < 1514)) <|
  bnd (ux z5.2 a0 1 a2) fun s8 =>
  gd (tg b s8 a0 = 9) <|
  gd (0 ≤ a0 ∧ ¬ (1438 ≤ a0 ∧ a0 < 1514)) <|
  bnd (ux s8 a0 2 a3) fun s11 =>
  gd (tg b s11 a0 = 9) <|
  gd (0 ≤ a0 ∧ ¬ (1438 ≤ a0 ∧ a0 < 1514)) <|
  bnd (ux s11 a0 3 a4) fun s14 =>
  some (0, s14)
theorem mx10_init {b : Bool} {x0 : Nat} {D : XD} {a0 : Int} {a1 : Int} {a2 : Int} {a3 : Int} {a4 : Int} {s0 : XS} {res : Int × XS} (h : x10_init b a0 a1 a2 a3 a4 s0 = some res) (l : Launch) : XMet0 l yX10_init cX10_init 5 none 3 b x0 D [.ref (ad x0 a0), .ref (ad x0 a1), J a2, J a3, J a4] s0 0 res := by
  refine XMet0.ofn [(0, .ref (ad x0 a0)), (1, .ref (ad x0 a1)), (2, J a2), (3, J a3), (4, J a4)] "VerbAtDusk$Saying" "<init>" rfl rfl (plainFor_of_name (by decide)) (Nat.le_of_ble_eq_true rfl) rfl ?_
  unfold x10_init at h
  generalize nC s0 = cN
  generalize nS s0 = sN
  refine gx_aload_n 0 0 dX10_init_0 rfl ?_
  refine gx_aload_n 1 1 dX10_init_1 rfl ?_
  obtain ⟨z5, ez5, h⟩ := opt_e h
  refine gx_callI (As := [.ref (ad x0 a1)]) (rest := []) 2 1 (mx9_init ez5 l) q893 q167 q891 q892 rfl (by decide +kernel) (by decide) rfl rfl (Nat.le_of_ble_eq_true rfl) dX10_init_2 ?_
  refine gx_aload_n 5 0 dX10_init_5 rfl ?_
  refine gx_iload_n 6 2 dX10_init_6 rfl ?_
  obtain ⟨g6, h⟩ := gd_e h
  obtain ⟨g7, h⟩ := gd_e h
  obtain ⟨s8, es8, h⟩ := bnd_e h
  refine gx_putF (t := 9) (k := 1) (x := a2) (ty := .int) 7 rfl cw9 (by decide) g6 g7.1 g7.2 q895 same_f rfl rfl (by decide +kernel) rfl rfl (congrArg J (ux_s _ _ _ _)) es8 dX10_init_7 ?_
  refine gx_aload_n 10 0 dX10_init_10 rfl ?_
  refine gx_iload_n 11 3 dX10_init_11 rfl ?_
  obtain ⟨g9, h⟩ := gd_e h
  obtain ⟨g10, h⟩ := gd_e h
  obtain ⟨s11, es11, h⟩ := bnd_e h
  refine gx_putF (t := 9) (k := 2) (x := a3) (ty := .int) 12 rfl cw9 (by decide) g9 g10.1 g10.2 q897 same_f rfl rfl (by decide +kernel) rfl rfl (congrArg J (ux_s _ _ _ _)) es11 dX10_init_12 ?_
  refine gx_aload_n 15 0 dX10_init_15 rfl ?_
  refine gx_iload 16 4 dX10_init_16 rfl ?_
  obtain ⟨g12, h⟩ := gd_e h
  obtain ⟨g13, h⟩ := gd_e h
  obtain ⟨s14, es14, h⟩ := bnd_e h
  refine gx_putF (t := 9) (k := 3) (x := a4) (ty := .int) 18 rfl cw9 (by decide) g12 g13.1 g13.2 q899 same_f rfl rfl (by decide +kernel) rfl rfl (congrArg J (ux_s _ _ _ _)) es14 dX10_init_18 ?_
  exact gx_vret 21 dX10_init_21 (rt h)
/-! VerbAtDusk$Verb.init -/
noncomputable def x11_init (b : Bool) (a0 : Int) (a1 : Int) (a2 : Int) (a3 : Int) (s0 : XS) : Option (Int × XS) :=
  Option.bind (x9_init b a0 a1 s0) fun z4 =>
  gd (tg b z4.2 a0 = 10) <|
  gd (0 ≤ a0 ∧ ¬ (1438 ≤ a0 ∧ a0 < 1514)) <|
  bnd (ux z4.2 a0 1 a2) fun s7 =>
  gd (tg b s7 a0 = 10) <|
  gd (0 ≤ a0 ∧ ¬ (1438 ≤ a0 ∧ a0 < 1514)) <|
  bnd (ux s7 a0 2 a3) fun s10 =>
  some (0, s10)
theorem mx11_init {b : Bool} {x0 : Nat} {D : XD} {a0 : Int} {a1 : Int} {a2 : Int} {a3 : Int} {s0 : XS} {res : Int × XS} (h : x11_init b a0 a1 a2 a3 s0 = some res) (l : Launch) : XMet0 l yX11_init cX11_init 4 none 3 b x0 D [.ref (ad x0 a0), .ref (ad x0 a1), J a2, J a3] s0 0 res := by
  refine XMet0.ofn [(0, .ref (ad x0 a0)), (1, .ref (ad x0 a1)), (2, J a2), (3, J a3)] "VerbAtDusk$Verb" "<init>" rfl rfl (plainFor_of_name (by decide)) (Nat.le_of_ble_eq_true rfl) rfl ?_
  unfold x11_init at h
  generalize nC s0 = cN
  generalize nS s0 = sN
  refine gx_aload_n 0 0 dX11_init_0 rfl ?_
  refine gx_aload_n 1 1 dX11_init_1 rfl ?_
  obtain ⟨z4, ez4, h⟩ := opt_e h
  refine gx_callI (As := [.ref (ad x0 a1)]) (rest := []) 2 1 (mx9_init ez4 l) q893 q167 q995 q892 rfl (by decide +kernel) (by decide) rfl rfl (Nat.le_of_ble_eq_true rfl) dX11_init_2 ?_
  refine gx_aload_n 5 0 dX11_init_5 rfl ?_
  refine gx_iload_n 6 2 dX11_init_6 rfl ?_
  obtain ⟨g5, h⟩ := gd_e h
  obtain ⟨g6, h⟩ := gd_e h
  obtain ⟨s7, es7, h⟩ := bnd_e h
  refine gx_putF (t := 10) (k := 1) (x := a2) (ty := .int) 7 rfl cw10 (by decide) g5 g6.1 g6.2 q996 same_f rfl rfl (by decide +kernel) rfl rfl (congrArg J (ux_s _ _ _ _)) es7 dX11_init_7 ?_
  refine gx_aload_n 10 0 dX11_init_10 rfl ?_
  refine gx_iload_n 11 3 dX11_init_11 rfl ?_
  obtain ⟨g8, h⟩ := gd_e h
  obtain ⟨g9, h⟩ := gd_e h
  obtain ⟨s10, es10, h⟩ := bnd_e h
  refine gx_putF (t := 10) (k := 2) (x := a3) (ty := .int) 12 rfl cw10 (by decide) g8 g9.1 g9.2 q999 same_f rfl rfl (by decide +kernel) rfl rfl (congrArg J (ux_s _ _ _ _)) es10 dX11_init_12 ?_
  exact gx_vret 15 dX11_init_15 (rt h)
/-! VerbAtDusk$Test.init -/
noncomputable def x12_init (b : Bool) (a0 : Int) (s0 : XS) : Option (Int × XS) :=
  some (0, s0)
theorem mx12_init {b : Bool} {x0 : Nat} {D : XD} {a0 : Int} {s0 : XS} {res : Int × XS} (h : x12_init b a0 s0 = some res) (l : Launch) : XMet0 l yX12_init cX12_init 1 none 2 b x0 D [.ref (ad x0 a0)] s0 0 res := by
  refine XMet0.ofn [(0, .ref (ad x0 a0))] "VerbAtDusk$Test" "<init>" rfl rfl (plainFor_of_name (by decide)) (Nat.le_of_ble_eq_true rfl) rfl ?_
  unfold x12_init at h
  generalize nC s0 = cN
  generalize nS s0 = sN
  refine gx_aload_n 0 0 dX12_init_0 rfl ?_
  refine gx_objInit 1 q1032 q195 q196 dX12_init_1 (by decide) (Nat.le_of_ble_eq_true rfl) ?_
  exact gx_vret 4 dX12_init_4 (rt h)
/-! VerbAtDusk$Facts.init -/
noncomputable def x13_init (b : Bool) (a0 : Int) (a1 : Int) (s0 : XS) : Option (Int × XS) :=
  Option.bind (x12_init b a0 s0) fun z2 =>
  gd (0 ≤ z2.2 (-1) 0 ∧ 0 ≤ z2.2 (-1) 1) <|
  bnd (nwx z2.2 21 0 3 (dfl 21)) fun s4 =>
  Option.bind (j2_init b (z2.2 (-1) 0) 2 s4) fun z5 =>
  gd (tg b z5.2 a0 = 11) <|
  gd (0 ≤ a0 ∧ ¬ (1438 ≤ a0 ∧ a0 < 1514)) <|
  gd (¬ (z2.2 (-1) 0) = -1) <|
  bnd (ux z5.2 a0 0 (z2.2 (-1) 0)) fun s9 =>
  gd (tg b s9 a0 = 11) <|
  gd (0 ≤ a0 ∧ ¬ (1438 ≤ a0 ∧ a0 < 1514)) <|
  gd (bz a1) <|
  bnd (ux s9 a0 1 a1) fun s13 =>
  some (0, s13)
theorem mx13_init {b : Bool} {x0 : Nat} {D : XD} {a0 : Int} {a1 : Int} {s0 : XS} {res : Int × XS} (h : x13_init b a0 a1 s0 = some res) (l : Launch) : XMet0 l yX13_init cX13_init 2 none 5 b x0 D [.ref (ad x0 a0), J a1] s0 0 res := by
  refine XMet0.ofn [(0, .ref (ad x0 a0)), (1, J a1)] "VerbAtDusk$Facts" "<init>" rfl rfl (plainFor_of_name (by decide)) (Nat.le_of_ble_eq_true rfl) rfl ?_
  unfold x13_init at h
  generalize nC s0 = cN
  generalize nS s0 = sN
  refine gx_aload_n 0 0 dX13_init_0 rfl ?_
  obtain ⟨z2, ez2, h⟩ := opt_e h
  refine gx_callIN (As := []) (rest := []) 1 0 (mx12_init ez2 l) q1031 q174 q1029 q1030 rfl (by decide +kernel) (by decide) rfl rfl (Nat.le_of_ble_eq_true rfl) dX13_init_1 ?_
  refine gx_aload_n 4 0 dX13_init_4 rfl ?_
  obtain ⟨g3, h⟩ := gd_e h
  obtain ⟨s4, es4, h⟩ := bnd_e h
  refine gx_new (t := 21) 5 g3 cw21 tyJ2 tyJ2_ok (df_21 b x0 _) q1033 q204 q151 es4 dX13_init_5 ?_
  refine gx_dup 8 dX13_init_8 rfl ?_
  refine gx_iconst 9 dX13_init_9 ?_
  obtain ⟨z5, ez5, h⟩ := opt_e h
  refine gx_callI (As := [J 2]) (rest := [.ref (ad x0 (z2.2 (-1) 0)), .ref (ad x0 a0)]) 10 1 (mj2_init ez5 l) q207 q151 q1034 q206 rfl (by decide +kernel) (by decide) rfl rfl (Nat.le_of_ble_eq_true rfl) dX13_init_10 ?_
  obtain ⟨g6, h⟩ := gd_e h
  obtain ⟨g7, h⟩ := gd_e h
  obtain ⟨g8, h⟩ := gd_e h
  obtain ⟨s9, es9, h⟩ := bnd_e h
  refine gx_putF (t := 11) (k := 0) (x := (z2.2 (-1) 0)) (ty := (.object "java/util/List")) 13 rfl cw11 (by decide) g6 g7.1 g7.2 q1035 same_f rfl rfl (by decide +kernel) (refOk rfl _).1 (refOk rfl _).2 ((congrArg (rf x0) (ux_s _ _ _ _)).trans (rf_ne g8)) es9 dX13_init_13 ?_
  refine gx_aload_n 16 0 dX13_init_16 rfl ?_
  refine gx_iload_n 17 1 dX13_init_17 rfl ?_
  obtain ⟨g10, h⟩ := gd_e h
  obtain ⟨g11, h⟩ := gd_e h
  obtain ⟨g12, h⟩ := gd_e h
  obtain ⟨s13, es13, h⟩ := bnd_e h
  refine gx_putF (t := 11) (k := 1) (x := a1) (ty := .boolean) 18 rfl cw11 (by decide) g10 g11.1 g11.2 q1037 same_f rfl rfl (by decide +kernel) (bz_narrow g12) (bz_fits g12) (congrArg J (ux_s _ _ _ _)) es13 dX13_init_18 ?_
  exact gx_vret 21 dX13_init_21 (rt h)
/-! VerbAtDusk$Not.init -/
noncomputable def x14_init (b : Bool) (a0 : Int) (a1 : Int) (s0 : XS) : Option (Int × XS) :=
  Option.bind (x12_init b a0 s0) fun z2 =>
  gd (tg b z2.2 a0 = 12) <|
  gd (0 ≤ a0 ∧ ¬ (1438 ≤ a0 ∧ a0 < 1514)) <|
  gd (¬ a1 = -1) <|
  bnd (ux z2.2 a0 0 a1) fun s6 =>
  some (0, s6)
theorem mx14_init {b : Bool} {x0 : Nat} {D : XD} {a0 : Int} {a1 : Int} {s0 : XS} {res : Int × XS} (h : x14_init b a0 a1 s0 = some res) (l : Launch) : XMet0 l yX14_init cX14_init 2 none 3 b x0 D [.ref (ad x0 a0), .ref (ad x0 a1)] s0 0 res := by
  refine XMet0.ofn [(0, .ref (ad x0 a0)), (1, .ref (ad x0 a1))] "VerbAtDusk$Not" "<init>" rfl rfl (plainFor_of_name (by decide)) (Nat.le_of_ble_eq_true rfl) rfl ?_
  unfold x14_init at h
  generalize nC s0 = cN
  generalize nS s0 = sN
  refine gx_aload_n 0 0 dX14_init_0 rfl ?_
  obtain ⟨z2, ez2, h⟩ := opt_e h
  refine gx_callIN (As := []) (rest := []) 1 0 (mx12_init ez2 l) q1031 q174 q1065 q1030 rfl (by decide +kernel) (by decide) rfl rfl (Nat.le_of_ble_eq_true rfl) dX14_init_1 ?_
  refine gx_aload_n 4 0 dX14_init_4 rfl ?_
  refine gx_aload_n 5 1 dX14_init_5 rfl ?_
  obtain ⟨g3, h⟩ := gd_e h
  obtain ⟨g4, h⟩ := gd_e h
  obtain ⟨g5, h⟩ := gd_e h
  obtain ⟨s6, es6, h⟩ := bnd_e h
  refine gx_putF (t := 12) (k := 0) (x := a1) (ty := (.object "VerbAtDusk$Test")) 6 rfl cw12 (by decide) g3 g4.1 g4.2 q1066 same_f rfl rfl (by decide +kernel) (refOk rfl _).1 (refOk rfl _).2 ((congrArg (rf x0) (ux_s _ _ _ _)).trans (rf_ne g5)) es6 dX14_init_6 ?_
  exact gx_vret 9 dX14_init_9 (rt h)
/-! VerbAtDusk$All.init -/
noncomputable def x15_init (b : Bool) (a0 : Int) (s0 : XS) : Option (Int × XS) :=
  Option.bind (x12_init b a0 s0) fun z1 =>
  some (0, z1.2)
theorem mx15_init {b : Bool} {x0 : Nat} {D : XD} {a0 : Int} {s0 : XS} {res : Int × XS} (h : x15_init b a0 s0 = some res) (l : Launch) : XMet0 l yX15_init cX15_init 1 none 3 b x0 D [.ref (ad x0 a0)] s0 0 res := by
  refine XMet0.ofn [(0, .ref (ad x0 a0))] "VerbAtDusk$All" "<init>" rfl rfl (plainFor_of_name (by decide)) (Nat.le_of_ble_eq_true rfl) rfl ?_
  unfold x15_init at h
  generalize nC s0 = cN
  generalize nS s0 = sN
  refine gx_aload_n 0 0 dX15_init_0 rfl ?_
  obtain ⟨z1, ez1, h⟩ := opt_e h
  refine gx_callIN (As := []) (rest := []) 1 0 (mx12_init ez1 l) q1031 q174 q1076 q1030 rfl (by decide +kernel) (by decide) rfl rfl (Nat.le_of_ble_eq_true rfl) dX15_init_1 ?_
  exact gx_vret 4 dX15_init_4 (rt h)
/-! VerbAtDusk$Value.init -/
noncomputable def x16_init (b : Bool) (a0 : Int) (s0 : XS) : Option (Int × XS) :=
  some (0, s0)
theorem mx16_init {b : Bool} {x0 : Nat} {D : XD} {a0 : Int} {s0 : XS} {res : Int × XS} (h : x16_init b a0 s0 = some res) (l : Launch) : XMet0 l yX16_init cX16_init 1 none 2 b x0 D [.ref (ad x0 a0)] s0 0 res := by
  refine XMet0.ofn [(0, .ref (ad x0 a0))] "VerbAtDusk$Value" "<init>" rfl rfl (plainFor_of_name (by decide)) (Nat.le_of_ble_eq_true rfl) rfl ?_
  unfold x16_init at h
  generalize nC s0 = cN
  generalize nS s0 = sN
  refine gx_aload_n 0 0 dX16_init_0 rfl ?_
  refine gx_objInit 1 q1090 q195 q196 dX16_init_1 (by decide) (Nat.le_of_ble_eq_true rfl) ?_
  exact gx_vret 4 dX16_init_4 (rt h)
/-! VerbAtDusk$Chain.init -/
noncomputable def x17_init (b : Bool) (a0 : Int) (s0 : XS) : Option (Int × XS) :=
  Option.bind (x16_init b a0 s0) fun z1 =>
  gd (0 ≤ z1.2 (-1) 0 ∧ 0 ≤ z1.2 (-1) 1) <|
  bnd (nwx z1.2 21 0 3 (dfl 21)) fun s3 =>
  Option.bind (j2_init b (z1.2 (-1) 0) 2 s3) fun z4 =>
  gd (tg b z4.2 a0 = 14) <|
  gd (0 ≤ a0 ∧ ¬ (1438 ≤ a0 ∧ a0 < 1514)) <|
  gd (¬ (z1.2 (-1) 0) = -1) <|
  bnd (ux z4.2 a0 0 (z1.2 (-1) 0)) fun s8 =>
  gd (0 ≤ s8 (-1) 0 ∧ 0 ≤ s8 (-1) 1) <|
  bnd (nwx s8 23 0 4 (dfl 23)) fun s10 =>
  Option.bind (j15_init b (s8 (-1) 0) s10) fun z11 =>
  gd (tg b z11.2 a0 = 14) <|
  gd (0 ≤ a0 ∧ ¬ (1438 ≤ a0 ∧ a0 < 1514)) <|
  gd (¬ (s8 (-1) 0) = -1) <|
  bnd (ux z11.2 a0 1 (s8 (-1) 0)) fun s15 =>
  some (0, s15)
theorem mx17_init {b : Bool} {x0 : Nat} {D : XD} {a0 : Int} {s0 : XS} {res : Int × XS} (h : x17_init b a0 s0 = some res) (l : Launch) : XMet0 l yX17_init cX17_init 1 none 5 b x0 D [.ref (ad x0 a0)] s0 0 res := by
  refine XMet0.ofn [(0, .ref (ad x0 a0))] "VerbAtDusk$Chain" "<init>" rfl rfl (plainFor_of_name (by decide)) (Nat.le_of_ble_eq_true rfl) rfl ?_
  unfold x17_init at h
  generalize nC s0 = cN
  generalize nS s0 = sN
  refine gx_aload_n 0 0 dX17_init_0 rfl ?_
  obtain ⟨z1, ez1, h⟩ := opt_e h
  refine gx_callIN (As := []) (rest := []) 1 0 (mx16_init ez1 l) q1089 q178 q1087 q1088 rfl (by decide +kernel) (by decide) rfl rfl (Nat.le_of_ble_eq_true rfl) dX17_init_1 ?_
  refine gx_aload_n 4 0 dX17_init_4 rfl ?_
  obtain ⟨g2, h⟩ := gd_e h
  obtain ⟨s3, es3, h⟩ := bnd_e h
  refine gx_new (t := 21) 5 g2 cw21 tyJ2 tyJ2_ok (df_21 b x0 _) q1091 q204 q151 es3 dX17_init_5 ?_
  refine gx_dup 8 dX17_init_8 rfl ?_
  refine gx_iconst 9 dX17_init_9 ?_
  obtain ⟨z4, ez4, h⟩ := opt_e h
  refine gx_callI (As := [J 2]) (rest := [.ref (ad x0 (z1.2 (-1) 0)), .ref (ad x0 a0)]) 10 1 (mj2_init ez4 l) q207 q151 q1092 q206 rfl (by decide +kernel) (by decide) rfl rfl (Nat.le_of_ble_eq_true rfl) dX17_init_10 ?_
  obtain ⟨g5, h⟩ := gd_e h
  obtain ⟨g6, h⟩ := gd_e h
  obtain ⟨g7, h⟩ := gd_e h
  obtain ⟨s8, es8, h⟩ := bnd_e h
  refine gx_putF (t := 14) (k := 0) (x := (z1.2 (-1) 0)) (ty := (.object "java/util/List")) 13 rfl cw14 (by decide) g5 g6.1 g6.2 q1116 same_f rfl rfl (by decide +kernel) (refOk rfl _).1 (refOk rfl _).2 ((congrArg (rf x0) (ux_s _ _ _ _)).trans (rf_ne g7)) es8 dX17_init_13 ?_
  refine gx_aload_n 16 0 dX17_init_16 rfl ?_
  obtain ⟨g9, h⟩ := gd_e h
  obtain ⟨s10, es10, h⟩ := bnd_e h
  refine gx_new (t := 23) 17 g9 cw23 tyJ15 tyJ15_ok (df_23 b x0 _) q1093 q1094 q181 es10 dX17_init_17 ?_
  refine gx_dup 20 dX17_init_20 rfl ?_
  obtain ⟨z11, ez11, h⟩ := opt_e h
  refine gx_callI (As := []) (rest := [.ref (ad x0 (s8 (-1) 0)), .ref (ad x0 a0)]) 21 0 (mj15_init ez11 l) q1097 q181 q1095 q1096 rfl (by decide +kernel) (by decide) rfl rfl (Nat.le_of_ble_eq_true rfl) dX17_init_21 ?_
  obtain ⟨g12, h⟩ := gd_e h
  obtain ⟨g13, h⟩ := gd_e h
  obtain ⟨g14, h⟩ := gd_e h
  obtain ⟨s15, es15, h⟩ := bnd_e h
  refine gx_putF (t := 14) (k := 1) (x := (s8 (-1) 0)) (ty := (.object "java/lang/StringBuilder")) 24 rfl cw14 (by decide) g12 g13.1 g13.2 q1117 same_f rfl rfl (by decide +kernel) (refOk rfl _).1 (refOk rfl _).2 ((congrArg (rf x0) (ux_s _ _ _ _)).trans (rf_ne g14)) es15 dX17_init_24 ?_
  exact gx_vret 27 dX17_init_27 (rt h)
/-! VerbAtDusk$Chain.add -/
noncomputable def x17_add (b : Bool) (a0 : Int) (a1 : Int) (a2 : Int) (s0 : XS) : Option (Int × XS) :=
  gd (tg b s0 a0 = 14) <|
  gd (¬ (s0 a0 1) = -1) <|
  gd (tg b s0 (s0 a0 1) = 23) <|
  Option.bind (j15_append b (s0 a0 1) a1 s0) fun z5 =>
  gd (tg b z5.2 a0 = 14) <|
  gd (¬ (z5.2 a0 0) = -1) <|
  gd (tg b z5.2 (z5.2 a0 0) = 21) <|
  Option.bind (j2_add b (z5.2 a0 0) a2 z5.2) fun z9 =>
  some (0, z9.2)
theorem mx17_add {b : Bool} {x0 : Nat} {D : XD} {a0 : Int} {a1 : Int} {a2 : Int} {s0 : XS} {res : Int × XS} (h : x17_add b a0 a1 a2 s0 = some res) (l : Launch) : XMet0 l yX17_add cX17_add 3 none 8 b x0 D [.ref (ad x0 a0), J a1, .ref (ad x0 a2)] s0 0 res := by
  refine XMet0.ofn [(0, .ref (ad x0 a0)), (1, J a1), (2, .ref (ad x0 a2))] "VerbAtDusk$Chain" "add" rfl rfl (plainFor_of_name (by decide)) (Nat.le_of_ble_eq_true rfl) rfl ?_
  unfold x17_add at h
  generalize nC s0 = cN
  generalize nS s0 = sN
  refine gx_aload_n 0 0 dX17_add_0 rfl ?_
  obtain ⟨g3, h⟩ := gd_e h
  obtain ⟨g4, h⟩ := gd_e h
  refine gx_get (t := 14) (k := 1) (v := .ref (ad x0 (s0 a0 1))) 1 cw14 (by decide) g3 q1117 same_f (rf_ne g4) dX17_add_1 ?_
  refine gx_iload_n 4 1 dX17_add_4 rfl ?_
  obtain ⟨g6, h⟩ := gd_e h
  obtain ⟨z5, ez5, h⟩ := opt_e h
  refine gx_callV (As := [J a1]) (rest := []) (st' := [.ref (ad x0 z5.1)]) 5 1 cw23 g6 (mj15_append ez5 l) (lw_V q1201 q1202 q1203 q181 q1204) (by decide +kernel) (by decide) rfl rfl (Nat.le_of_ble_eq_true rfl) dX17_add_5 rfl ?_
  refine gx_pop 8 dX17_add_8 rfl ?_
  refine gx_aload_n 9 0 dX17_add_9 rfl ?_
  obtain ⟨g7, h⟩ := gd_e h
  obtain ⟨g8, h⟩ := gd_e h
  refine gx_get (t := 14) (k := 0) (v := .ref (ad x0 (z5.2 a0 0))) 10 cw14 (by decide) g7 q1116 same_f (rf_ne g8) dX17_add_10 ?_
  refine gx_aload_n 13 2 dX17_add_13 rfl ?_
  obtain ⟨g10, h⟩ := gd_e h
  obtain ⟨z9, ez9, h⟩ := opt_e h
  refine gx_callF (As := [.ref (ad x0 a2)]) (rest := []) (st' := [J z9.1]) 14 1 cw21 rfl g10  (mj2_add ez9 l) (lw_app (lw_in4 q1257 q915 q917 q151) (lw_meth q919)) (by decide) (by decide +kernel) (by decide) rfl rfl (Nat.le_of_ble_eq_true rfl) dX17_add_14 rfl ?_
  refine gx_pop 19 dX17_add_19 rfl ?_
  exact gx_vret 20 dX17_add_20 (rt h)
/-! VerbAtDusk$Pair.init -/
noncomputable def x18_init (b : Bool) (a0 : Int) (a1 : Int) (a2 : Int) (a3 : Int) (s0 : XS) : Option (Int × XS) :=
  Option.bind (x16_init b a0 s0) fun z4 =>
  gd (tg b z4.2 a0 = 15) <|
  gd (0 ≤ a0 ∧ ¬ (1438 ≤ a0 ∧ a0 < 1514)) <|
  gd (bz a1) <|
  bnd (ux z4.2 a0 0 a1) fun s8 =>
  gd (tg b s8 a0 = 15) <|
  gd (0 ≤ a0 ∧ ¬ (1438 ≤ a0 ∧ a0 < 1514)) <|
  gd (¬ a2 = -1) <|
  bnd (ux s8 a0 1 a2) fun s12 =>
  gd (tg b s12 a0 = 15) <|
  gd (0 ≤ a0 ∧ ¬ (1438 ≤ a0 ∧ a0 < 1514)) <|
  gd (¬ a3 = -1) <|
  bnd (ux s12 a0 2 a3) fun s16 =>
  some (0, s16)
theorem mx18_init {b : Bool} {x0 : Nat} {D : XD} {a0 : Int} {a1 : Int} {a2 : Int} {a3 : Int} {s0 : XS} {res : Int × XS} (h : x18_init b a0 a1 a2 a3 s0 = some res) (l : Launch) : XMet0 l yX18_init cX18_init 4 none 3 b x0 D [.ref (ad x0 a0), J a1, .ref (ad x0 a2), .ref (ad x0 a3)] s0 0 res := by
  refine XMet0.ofn [(0, .ref (ad x0 a0)), (1, J a1), (2, .ref (ad x0 a2)), (3, .ref (ad x0 a3))] "VerbAtDusk$Pair" "<init>" rfl rfl (plainFor_of_name (by decide)) (Nat.le_of_ble_eq_true rfl) rfl ?_
  unfold x18_init at h
  generalize nC s0 = cN
  generalize nS s0 = sN
  refine gx_aload_n 0 0 dX18_init_0 rfl ?_
  obtain ⟨z4, ez4, h⟩ := opt_e h
  refine gx_callIN (As := []) (rest := []) 1 0 (mx16_init ez4 l) q1089 q178 q1140 q1088 rfl (by decide +kernel) (by decide) rfl rfl (Nat.le_of_ble_eq_true rfl) dX18_init_1 ?_
  refine gx_aload_n 4 0 dX18_init_4 rfl ?_
  refine gx_iload_n 5 1 dX18_init_5 rfl ?_
  obtain ⟨g5, h⟩ := gd_e h
  obtain ⟨g6, h⟩ := gd_e h
  obtain ⟨g7, h⟩ := gd_e h
  obtain ⟨s8, es8, h⟩ := bnd_e h
  refine gx_putF (t := 15) (k := 0) (x := a1) (ty := .boolean) 6 rfl cw15 (by decide) g5 g6.1 g6.2 q1141 same_f rfl rfl (by decide +kernel) (bz_narrow g7) (bz_fits g7) (congrArg J (ux_s _ _ _ _)) es8 dX18_init_6 ?_
  refine gx_aload_n 9 0 dX18_init_9 rfl ?_
  refine gx_aload_n 10 2 dX18_init_10 rfl ?_
  obtain ⟨g9, h⟩ := gd_e h
  obtain ⟨g10, h⟩ := gd_e h
  obtain ⟨g11, h⟩ := gd_e h
  obtain ⟨s12, es12, h⟩ := bnd_e h
  refine gx_putF (t := 15) (k := 1) (x := a2) (ty := (.object "VerbAtDusk$Value")) 11 rfl cw15 (by decide) g9 g10.1 g10.2 q1142 same_f rfl rfl (by decide +kernel) (refOk rfl _).1 (refOk rfl _).2 ((congrArg (rf x0) (ux_s _ _ _ _)).trans (rf_ne g11)) es12 dX18_init_11 ?_
  refine gx_aload_n 14 0 dX18_init_14 rfl ?_
  refine gx_aload_n 15 3 dX18_init_15 rfl ?_
  obtain ⟨g13, h⟩ := gd_e h
  obtain ⟨g14, h⟩ := gd_e h
  obtain ⟨g15, h⟩ := gd_e h
  obtain ⟨s16, es16, h⟩ := bnd_e h
  refine gx_putF (t := 15) (k := 2) (x := a3) (ty := (.object "VerbAtDusk$Value")) 16 rfl cw15 (by decide) g13 g14.1 g14.2 q1143 same_f rfl rfl (by decide +kernel) (refOk rfl _).1 (refOk rfl _).2 ((congrArg (rf x0) (ux_s _ _ _ _)).trans (rf_ne g15)) es16 dX18_init_16 ?_
  exact gx_vret 19 dX18_init_19 (rt h)
/-! VerbAtDusk$Fixed.init -/
noncomputable def x19_init (b : Bool) (a0 : Int) (a1 : Int) (s0 : XS) : Option (Int × XS) :=
  Option.bind (x16_init b a0 s0) fun z2 =>
  gd (tg b z2.2 a0 = 16) <|
  gd (0 ≤ a0 ∧ ¬ (1438 ≤ a0 ∧ a0 < 1514)) <|
  bnd (ux z2.2 a0 0 a1) fun s5 =>
  some (0, s5)
theorem mx19_init {b : Bool} {x0 : Nat} {D : XD} {a0 : Int} {a1 : Int} {s0 : XS} {res : Int × XS} (h : x19_init b a0 a1 s0 = some res) (l : Launch) : XMet0 l yX19_init cX19_init 3 none 3 b x0 D [.ref (ad x0 a0), Lg a1] s0 0 res := by
  refine XMet0.ofn [(0, .ref (ad x0 a0)), (1, Lg a1)] "VerbAtDusk$Fixed" "<init>" rfl rfl (plainFor_of_name (by decide)) (Nat.le_of_ble_eq_true rfl) rfl ?_
  unfold x19_init at h
  generalize nC s0 = cN
  generalize nS s0 = sN
  refine gx_aload_n 0 0 dX19_init_0 rfl ?_
  obtain ⟨z2, ez2, h⟩ := opt_e h
  refine gx_callIN (As := []) (rest := []) 1 0 (mx16_init ez2 l) q1089 q178 q1156 q1088 rfl (by decide +kernel) (by decide) rfl rfl (Nat.le_of_ble_eq_true rfl) dX19_init_1 ?_
  refine gx_aload_n 4 0 dX19_init_4 rfl ?_
  refine gx_lload_n 5 1 dX19_init_5 rfl ?_
  obtain ⟨g3, h⟩ := gd_e h
  obtain ⟨g4, h⟩ := gd_e h
  obtain ⟨s5, es5, h⟩ := bnd_e h
  refine gx_putF (t := 16) (k := 0) (x := a1) (ty := .long) 6 rfl cw16 (by decide) g3 g4.1 g4.2 q1157 same_f rfl rfl (by decide +kernel) rfl rfl (congrArg Lg (ux_s _ _ _ _)) es5 dX19_init_6 ?_
  exact gx_vret 9 dX19_init_9 (rt h)
/-! VerbAtDusk$Asked.init -/
noncomputable def x20_init (b : Bool) (a0 : Int) (a1 : Int) (s0 : XS) : Option (Int × XS) :=
  Option.bind (x16_init b a0 s0) fun z2 =>
  gd (tg b z2.2 a0 = 17) <|
  gd (0 ≤ a0 ∧ ¬ (1438 ≤ a0 ∧ a0 < 1514)) <|
  bnd (ux z2.2 a0 0 a1) fun s5 =>
  some (0, s5)
theorem mx20_init {b : Bool} {x0 : Nat} {D : XD} {a0 : Int} {a1 : Int} {s0 : XS} {res : Int × XS} (h : x20_init b a0 a1 s0 = some res) (l : Launch) : XMet0 l yX20_init cX20_init 2 none 3 b x0 D [.ref (ad x0 a0), J a1] s0 0 res := by
  refine XMet0.ofn [(0, .ref (ad x0 a0)), (1, J a1)] "VerbAtDusk$Asked" "<init>" rfl rfl (plainFor_of_name (by decide)) (Nat.le_of_ble_eq_true rfl) rfl ?_
  unfold x20_init at h
  generalize nC s0 = cN
  generalize nS s0 = sN
  refine gx_aload_n 0 0 dX20_init_0 rfl ?_
  obtain ⟨z2, ez2, h⟩ := opt_e h
  refine gx_callIN (As := []) (rest := []) 1 0 (mx16_init ez2 l) q1089 q178 q1168 q1088 rfl (by decide +kernel) (by decide) rfl rfl (Nat.le_of_ble_eq_true rfl) dX20_init_1 ?_
  refine gx_aload_n 4 0 dX20_init_4 rfl ?_
  refine gx_iload_n 5 1 dX20_init_5 rfl ?_
  obtain ⟨g3, h⟩ := gd_e h
  obtain ⟨g4, h⟩ := gd_e h
  obtain ⟨s5, es5, h⟩ := bnd_e h
  refine gx_putF (t := 17) (k := 0) (x := a1) (ty := .int) 6 rfl cw17 (by decide) g3 g4.1 g4.2 q1169 same_f rfl rfl (by decide +kernel) rfl rfl (congrArg J (ux_s _ _ _ _)) es5 dX20_init_6 ?_
  exact gx_vret 9 dX20_init_9 (rt h)
/-! VerbAtDusk$Looked.init -/
noncomputable def x21_init (b : Bool) (a0 : Int) (a1 : Int) (a2 : Int) (a3 : Int) (s0 : XS) : Option (Int × XS) :=
  gd (tg b s0 a0 = 18) <|
  gd (0 ≤ a0 ∧ ¬ (1438 ≤ a0 ∧ a0 < 1514)) <|
  gd (¬ a1 = -1) <|
  bnd (ux s0 a0 2 a1) fun s7 =>
  Option.bind (x16_init b a0 s7) fun z8 =>
  gd (tg b z8.2 a0 = 18) <|
  gd (0 ≤ a0 ∧ ¬ (1438 ≤ a0 ∧ a0 < 1514)) <|
  bnd (ux z8.2 a0 0 a2) fun s11 =>
  gd (tg b s11 a0 = 18) <|
  gd (0 ≤ a0 ∧ ¬ (1438 ≤ a0 ∧ a0 < 1514)) <|
  gd (¬ a3 = -1) <|
  bnd (ux s11 a0 1 a3) fun s15 =>
  some (0, s15)
theorem mx21_init {b : Bool} {x0 : Nat} {D : XD} {a0 : Int} {a1 : Int} {a2 : Int} {a3 : Int} {s0 : XS} {res : Int × XS} (h : x21_init b a0 a1 a2 a3 s0 = some res) (l : Launch) : XMet0 l yX21_init cX21_init 4 none 3 b x0 D [.ref (ad x0 a0), .ref (ad x0 a1), J a2, .ref (ad x0 a3)] s0 0 res := by
  refine XMet0.ofn [(0, .ref (ad x0 a0)), (1, .ref (ad x0 a1)), (2, J a2), (3, .ref (ad x0 a3))] "VerbAtDusk$Looked" "<init>" rfl rfl (plainFor_of_name (by decide)) (Nat.le_of_ble_eq_true rfl) rfl ?_
  unfold x21_init at h
  generalize nC s0 = cN
  generalize nS s0 = sN
  refine gx_aload_n 0 0 dX21_init_0 rfl ?_
  refine gx_aload_n 1 1 dX21_init_1 rfl ?_
  obtain ⟨g4, h⟩ := gd_e h
  obtain ⟨g5, h⟩ := gd_e h
  obtain ⟨g6, h⟩ := gd_e h
  obtain ⟨s7, es7, h⟩ := bnd_e h
  refine gx_putF (t := 18) (k := 2) (x := a1) (ty := (.object "VerbAtDusk")) 2 rfl cw18 (by decide) g4 g5.1 g5.2 q1187 same_f rfl rfl (by decide +kernel) (refOk rfl _).1 (refOk rfl _).2 ((congrArg (rf x0) (ux_s _ _ _ _)).trans (rf_ne g6)) es7 dX21_init_2 ?_
  refine gx_aload_n 5 0 dX21_init_5 rfl ?_
  obtain ⟨z8, ez8, h⟩ := opt_e h
  refine gx_callIN (As := []) (rest := []) 6 0 (mx16_init ez8 l) q1089 q178 q1184 q1088 rfl (by decide +kernel) (by decide) rfl rfl (Nat.le_of_ble_eq_true rfl) dX21_init_6 ?_
  refine gx_aload_n 9 0 dX21_init_9 rfl ?_
  refine gx_iload_n 10 2 dX21_init_10 rfl ?_
  obtain ⟨g9, h⟩ := gd_e h
  obtain ⟨g10, h⟩ := gd_e h
  obtain ⟨s11, es11, h⟩ := bnd_e h
  refine gx_putF (t := 18) (k := 0) (x := a2) (ty := .int) 11 rfl cw18 (by decide) g9 g10.1 g10.2 q1185 same_f rfl rfl (by decide +kernel) rfl rfl (congrArg J (ux_s _ _ _ _)) es11 dX21_init_11 ?_
  refine gx_aload_n 14 0 dX21_init_14 rfl ?_
  refine gx_aload_n 15 3 dX21_init_15 rfl ?_
  obtain ⟨g12, h⟩ := gd_e h
  obtain ⟨g13, h⟩ := gd_e h
  obtain ⟨g14, h⟩ := gd_e h
  obtain ⟨s15, es15, h⟩ := bnd_e h
  refine gx_putF (t := 18) (k := 1) (x := a3) (ty := (.object "VerbAtDusk$Value")) 16 rfl cw18 (by decide) g12 g13.1 g13.2 q1186 same_f rfl rfl (by decide +kernel) (refOk rfl _).1 (refOk rfl _).2 ((congrArg (rf x0) (ux_s _ _ _ _)).trans (rf_ne g14)) es15 dX21_init_16 ?_
  exact gx_vret 19 dX21_init_19 (rt h)
/-! VerbAtDusk$Than.init -/
noncomputable def x22_init (b : Bool) (a0 : Int) (a1 : Int) (a2 : Int) (a3 : Int) (s0 : XS) : Option (Int × XS) :=
  Option.bind (x12_init b a0 s0) fun z4 =>
  gd (tg b z4.2 a0 = 19) <|
  gd (0 ≤ a0 ∧ ¬ (1438 ≤ a0 ∧ a0 < 1514)) <|
  gd (¬ a1 = -1) <|
  bnd (ux z4.2 a0 0 a1) fun s8 =>
  gd (tg b s8 a0 = 19) <|
  gd (0 ≤ a0 ∧ ¬ (1438 ≤ a0 ∧ a0 < 1514)) <|
  bnd (ux s8 a0 2 a2) fun s11 =>
  gd (tg b s11 a0 = 19) <|
  gd (0 ≤ a0 ∧ ¬ (1438 ≤ a0 ∧ a0 < 1514)) <|
  gd (¬ a3 = -1) <|
  bnd (ux s11 a0 1 a3) fun s15 =>
  some (0, s15)
theorem mx22_init {b : Bool} {x0 : Nat} {D : XD} {a0 : Int} {a1 : Int} {a2 : Int} {a3 : Int} {s0 : XS} {res : Int × XS} (h : x22_init b a0 a1 a2 a3 s0 = some res) (l : Launch) : XMet0 l yX22_init cX22_init 4 none 3 b x0 D [.ref (ad x0 a0), .ref (ad x0 a1), J a2, .ref (ad x0 a3)] s0 0 res := by
  refine XMet0.ofn [(0, .ref (ad x0 a0)), (1, .ref (ad x0 a1)), (2, J a2), (3, .ref (ad x0 a3))] "VerbAtDusk$Than" "<init>" rfl rfl (plainFor_of_name (by decide)) (Nat.le_of_ble_eq_true rfl) rfl ?_
  unfold x22_init at h
  generalize nC s0 = cN
  generalize nS s0 = sN
  refine gx_aload_n 0 0 dX22_init_0 rfl ?_
  obtain ⟨z4, ez4, h⟩ := opt_e h
  refine gx_callIN (As := []) (rest := []) 1 0 (mx12_init ez4 l) q1031 q174 q1267 q1030 rfl (by decide +kernel) (by decide) rfl rfl (Nat.le_of_ble_eq_true rfl) dX22_init_1 ?_
  refine gx_aload_n 4 0 dX22_init_4 rfl ?_
  refine gx_aload_n 5 1 dX22_init_5 rfl ?_
  obtain ⟨g5, h⟩ := gd_e h
  obtain ⟨g6, h⟩ := gd_e h
  obtain ⟨g7, h⟩ := gd_e h
  obtain ⟨s8, es8, h⟩ := bnd_e h
  refine gx_putF (t := 19) (k := 0) (x := a1) (ty := (.object "VerbAtDusk$Value")) 6 rfl cw19 (by decide) g5 g6.1 g6.2 q1268 same_f rfl rfl (by decide +kernel) (refOk rfl _).1 (refOk rfl _).2 ((congrArg (rf x0) (ux_s _ _ _ _)).trans (rf_ne g7)) es8 dX22_init_6 ?_
  refine gx_aload_n 9 0 dX22_init_9 rfl ?_
  refine gx_iload_n 10 2 dX22_init_10 rfl ?_
  obtain ⟨g9, h⟩ := gd_e h
  obtain ⟨g10, h⟩ := gd_e h
  obtain ⟨s11, es11, h⟩ := bnd_e h
  refine gx_putF (t := 19) (k := 2) (x := a2) (ty := .int) 11 rfl cw19 (by decide) g9 g10.1 g10.2 q1270 same_f rfl rfl (by decide +kernel) rfl rfl (congrArg J (ux_s _ _ _ _)) es11 dX22_init_11 ?_
  refine gx_aload_n 14 0 dX22_init_14 rfl ?_
  refine gx_aload_n 15 3 dX22_init_15 rfl ?_
  obtain ⟨g12, h⟩ := gd_e h
  obtain ⟨g13, h⟩ := gd_e h
  obtain ⟨g14, h⟩ := gd_e h
  obtain ⟨s15, es15, h⟩ := bnd_e h
  refine gx_putF (t := 19) (k := 1) (x := a3) (ty := (.object "VerbAtDusk$Value")) 16 rfl cw19 (by decide) g12 g13.1 g13.2 q1269 same_f rfl rfl (by decide +kernel) (refOk rfl _).1 (refOk rfl _).2 ((congrArg (rf x0) (ux_s _ _ _ _)).trans (rf_ne g14)) es15 dX22_init_16 ?_
  exact gx_vret 19 dX22_init_19 (rt h)
/-! VerbAtDusk$Question.init -/
noncomputable def x23_init (b : Bool) (a0 : Int) (a1 : Int) (a2 : Int) (a3 : Int) (s0 : XS) : Option (Int × XS) :=
  gd (tg b s0 a0 = 20) <|
  gd (0 ≤ a0 ∧ ¬ (1438 ≤ a0 ∧ a0 < 1514)) <|
  bnd (ux s0 a0 3 (-1)) fun s6 =>
  gd (tg b s6 a0 = 20) <|
  gd (0 ≤ a0 ∧ ¬ (1438 ≤ a0 ∧ a0 < 1514)) <|
  bnd (ux s6 a0 0 a1) fun s9 =>
  gd (tg b s9 a0 = 20) <|
  gd (0 ≤ a0 ∧ ¬ (1438 ≤ a0 ∧ a0 < 1514)) <|
  bnd (ux s9 a0 1 a2) fun s12 =>
  gd (tg b s12 a0 = 20) <|
  gd (0 ≤ a0 ∧ ¬ (1438 ≤ a0 ∧ a0 < 1514)) <|
  bnd (ux s12 a0 2 a3) fun s15 =>
  some (0, s15)
theorem mx23_init {b : Bool} {x0 : Nat} {D : XD} {a0 : Int} {a1 : Int} {a2 : Int} {a3 : Int} {s0 : XS} {res : Int × XS} (h : x23_init b a0 a1 a2 a3 s0 = some res) (l : Launch) : XMet0 l yX23_init cX23_init 4 none 2 b x0 D [.ref (ad x0 a0), J a1, rf x0 a2, rf x0 a3] s0 0 res := by
  refine XMet0.ofn [(0, .ref (ad x0 a0)), (1, J a1), (2, rf x0 a2), (3, rf x0 a3)] "VerbAtDusk$Question" "<init>" rfl rfl (plainFor_of_name (by decide)) (by rcases rf_cases x0 a2 with e0 | ⟨w0, e0⟩ <;> rcases rf_cases x0 a3 with e1 | ⟨w1, e1⟩ <;> rw [e0, e1] <;> exact Nat.le_of_ble_eq_true rfl) (by rcases rf_cases x0 a2 with e0 | ⟨w0, e0⟩ <;> rcases rf_cases x0 a3 with e1 | ⟨w1, e1⟩ <;> rw [e0, e1] <;> rfl) ?_
  unfold x23_init at h
  generalize nC s0 = cN
  generalize nS s0 = sN
  refine gx_aload_n 0 0 dX23_init_0 rfl ?_
  refine gx_objInit 1 q1685 q195 q196 dX23_init_1 (by decide) (Nat.le_of_ble_eq_true rfl) ?_
  refine gx_aload_n 4 0 dX23_init_4 rfl ?_
  refine gx_ldc2 (v := -1) 5 dX23_init_5 q1686 (by decide) ?_
  obtain ⟨g4, h⟩ := gd_e h
  obtain ⟨g5, h⟩ := gd_e h
  obtain ⟨s6, es6, h⟩ := bnd_e h
  refine gx_put (t := 20) (k := 3) (x := (-1)) (ty := .long) 8 cw20 (by decide) g4 g5.1 g5.2 q1690 same_f rfl (by decide +kernel) rfl rfl (congrArg Lg (ux_s _ _ _ _)) es6 dX23_init_8 ?_
  refine gx_aload_n 11 0 dX23_init_11 rfl ?_
  refine gx_iload_n 12 1 dX23_init_12 rfl ?_
  obtain ⟨g7, h⟩ := gd_e h
  obtain ⟨g8, h⟩ := gd_e h
  obtain ⟨s9, es9, h⟩ := bnd_e h
  refine gx_putF (t := 20) (k := 0) (x := a1) (ty := .int) 13 rfl cw20 (by decide) g7 g8.1 g8.2 q1687 same_f rfl rfl (by decide +kernel) rfl rfl (congrArg J (ux_s _ _ _ _)) es9 dX23_init_13 ?_
  refine gx_aload_n 16 0 dX23_init_16 rfl ?_
  refine gx_aload_nR 17 2 dX23_init_17 rfl ?_
  obtain ⟨g10, h⟩ := gd_e h
  obtain ⟨g11, h⟩ := gd_e h
  obtain ⟨s12, es12, h⟩ := bnd_e h
  refine gx_putF (t := 20) (k := 1) (x := a2) (ty := (.object "VerbAtDusk$Test")) 18 rfl cw20 (by decide) g10 g11.1 g11.2 q1688 same_f rfl rfl (by decide +kernel) (rfOk rfl _).1 (rfOk rfl _).2 (congrArg (rf x0) (ux_s _ _ _ _)) es12 dX23_init_18 ?_
  refine gx_aload_n 21 0 dX23_init_21 rfl ?_
  refine gx_aload_nR 22 3 dX23_init_22 rfl ?_
  obtain ⟨g13, h⟩ := gd_e h
  obtain ⟨g14, h⟩ := gd_e h
  obtain ⟨s15, es15, h⟩ := bnd_e h
  refine gx_putF (t := 20) (k := 2) (x := a3) (ty := (.object "VerbAtDusk$Value")) 23 rfl cw20 (by decide) g13 g14.1 g14.2 q1689 same_f rfl rfl (by decide +kernel) (rfOk rfl _).1 (rfOk rfl _).2 (congrArg (rf x0) (ux_s _ _ _ _)) es15 dX23_init_23 ?_
  exact gx_vret 26 dX23_init_26 (rt h)
/-! VerbAtDusk$Country.init -/
noncomputable def x1_init (b : Bool) (a0 : Int) (s0 : XS) : Option (Int × XS) :=
  gd (0 ≤ s0 (-1) 0 ∧ 0 ≤ s0 (-1) 1) <|
  bnd (nwx s0 21 0 3 (dfl 21)) fun s2 =>
  Option.bind (j2_init b (s0 (-1) 0) 2 s2) fun z3 =>
  gd (tg b z3.2 a0 = 2) <|
  gd (0 ≤ a0 ∧ ¬ (1438 ≤ a0 ∧ a0 < 1514)) <|
  gd (¬ (s0 (-1) 0) = -1) <|
  bnd (ux z3.2 a0 4 (s0 (-1) 0)) fun s7 =>
  gd (0 ≤ s7 (-1) 0 ∧ 0 ≤ s7 (-1) 1) <|
  bnd (nwx s7 21 0 3 (dfl 21)) fun s9 =>
  Option.bind (j2_init b (s7 (-1) 0) 4 s9) fun z10 =>
  gd (tg b z10.2 a0 = 2) <|
  gd (0 ≤ a0 ∧ ¬ (1438 ≤ a0 ∧ a0 < 1514)) <|
  gd (¬ (s7 (-1) 0) = -1) <|
  bnd (ux z10.2 a0 5 (s7 (-1) 0)) fun s14 =>
  some (0, s14)
theorem mx1_init {b : Bool} {x0 : Nat} {D : XD} {a0 : Int} {s0 : XS} {res : Int × XS} (h : x1_init b a0 s0 = some res) (l : Launch) : XMet0 l yX1_init cX1_init 1 none 5 b x0 D [.ref (ad x0 a0)] s0 0 res := by
  refine XMet0.ofn [(0, .ref (ad x0 a0))] "VerbAtDusk$Country" "<init>" rfl rfl (plainFor_of_name (by decide)) (Nat.le_of_ble_eq_true rfl) rfl ?_
  unfold x1_init at h
  generalize nC s0 = cN
  generalize nS s0 = sN
  refine gx_aload_n 0 0 dX1_init_0 rfl ?_
  refine gx_objInit 1 q202 q195 q196 dX1_init_1 (by decide) (Nat.le_of_ble_eq_true rfl) ?_
  refine gx_aload_n 4 0 dX1_init_4 rfl ?_
  obtain ⟨g1, h⟩ := gd_e h
  obtain ⟨s2, es2, h⟩ := bnd_e h
  refine gx_new (t := 21) 5 g1 cw21 tyJ2 tyJ2_ok (df_21 b x0 _) q203 q204 q151 es2 dX1_init_5 ?_
  refine gx_dup 8 dX1_init_8 rfl ?_
  refine gx_iconst 9 dX1_init_9 ?_
  obtain ⟨z3, ez3, h⟩ := opt_e h
  refine gx_callI (As := [J 2]) (rest := [.ref (ad x0 (s0 (-1) 0)), .ref (ad x0 a0)]) 10 1 (mj2_init ez3 l) q207 q151 q205 q206 rfl (by decide +kernel) (by decide) rfl rfl (Nat.le_of_ble_eq_true rfl) dX1_init_10 ?_
  obtain ⟨g4, h⟩ := gd_e h
  obtain ⟨g5, h⟩ := gd_e h
  obtain ⟨g6, h⟩ := gd_e h
  obtain ⟨s7, es7, h⟩ := bnd_e h
  refine gx_putF (t := 2) (k := 4) (x := (s0 (-1) 0)) (ty := (.object "java/util/List")) 13 rfl cw2 (by decide) g4 g5.1 g5.2 q240 same_f rfl rfl (by decide +kernel) (refOk rfl _).1 (refOk rfl _).2 ((congrArg (rf x0) (ux_s _ _ _ _)).trans (rf_ne g6)) es7 dX1_init_13 ?_
  refine gx_aload_n 16 0 dX1_init_16 rfl ?_
  obtain ⟨g8, h⟩ := gd_e h
  obtain ⟨s9, es9, h⟩ := bnd_e h
  refine gx_new (t := 21) 17 g8 cw21 tyJ2 tyJ2_ok (df_21 b x0 _) q203 q204 q151 es9 dX1_init_17 ?_
  refine gx_dup 20 dX1_init_20 rfl ?_
  refine gx_iconst 21 dX1_init_21 ?_
  obtain ⟨z10, ez10, h⟩ := opt_e h
  refine gx_callI (As := [J 4]) (rest := [.ref (ad x0 (s7 (-1) 0)), .ref (ad x0 a0)]) 22 1 (mj2_init ez10 l) q207 q151 q205 q206 rfl (by decide +kernel) (by decide) rfl rfl (Nat.le_of_ble_eq_true rfl) dX1_init_22 ?_
  obtain ⟨g11, h⟩ := gd_e h
  obtain ⟨g12, h⟩ := gd_e h
  obtain ⟨g13, h⟩ := gd_e h
  obtain ⟨s14, es14, h⟩ := bnd_e h
  refine gx_putF (t := 2) (k := 5) (x := (s7 (-1) 0)) (ty := (.object "java/util/List")) 25 rfl cw2 (by decide) g11 g12.1 g12.2 q244 same_f rfl rfl (by decide +kernel) (refOk rfl _).1 (refOk rfl _).2 ((congrArg (rf x0) (ux_s _ _ _ _)).trans (rf_ne g13)) es14 dX1_init_25 ?_
  exact gx_vret 28 dX1_init_28 (rt h)
/-! VerbAtDusk$Named.find -/
noncomputable def x9_find_L2 (b : Bool) (a1 : Int) (a2 : Int) (k40 : XS → Option (Int × XS)) (k32 : Int → XS → Option (Int × XS)) : Nat → Int → XS → Option (Int × XS)
  | 0, _, _ => none
  | n + 1, x2_4, s5 =>
    gd (tg b s5 a1 = 21) <|
    Option.bind (j2_size b a1 s5) fun z9 =>
    if i32 z9.1 ≤ i32 x2_4 then
      k40 z9.2
    else
      gd (tg b z9.2 a1 = 21) <|
      Option.bind (j2_get b a1 x2_4 z9.2) fun z12 =>
      gd (isNa (tg b z12.2 z12.1)) <|
      gd (isNa (tg b z12.2 z12.1)) <|
      gd (¬ (z12.2 z12.1 0) = -1) <|
      gd (tg b z12.2 (z12.2 z12.1 0) = 22) <|
      Option.bind (j6_equals b (z12.2 z12.1 0) a2 z12.2) fun z17 =>
      if i32 z17.1 = 0 then
        bnd (x2_4 + 1) fun x2_20 =>
        x9_find_L2 b a1 a2 k40 k32 n x2_20 z17.2
      else
        k32 x2_4 z17.2
noncomputable def x9_find (b : Bool) (a1 : Int) (a2 : Int) (s0 : XS) : Option (Int × XS) :=
  bnd 0 fun x2_3 =>
  x9_find_L2 b a1 a2
    (fun (s21 : XS) =>
      some ((-1), s21))
    (fun (x2_22 : Int) (s23 : XS) =>
      some (x2_22, s23))
    FU x2_3 s0
theorem wx9_find_L2 {l : Launch} {x0 : Nat} {D : XD} {cN sN : Nat} {res : Int × XS} {b : Bool} {a1 : Int} {a2 : Int} {k40 : XS → Option (Int × XS)} {k32 : Int → XS → Option (Int × XS)} (hk40 : ∀ (s6 : XS), k40 s6 = some res → GX l cX9_find "VerbAtDusk$Named" 3 (some .int) "find" [] x0 D b 1 4 cN sN (0, res) s6 40 [] []) (hk32 : ∀ (x2_7 : Int) (s8 : XS), k32 x2_7 s8 = some res → GX l cX9_find "VerbAtDusk$Named" 3 (some .int) "find" [] x0 D b 1 4 cN sN (0, res) s8 32 [(2, J x2_7)] []) : ∀ (n : Nat) (x2_4 : Int) (s5 : XS), x9_find_L2 b a1 a2 k40 k32 n x2_4 s5 = some res → GX l cX9_find "VerbAtDusk$Named" 3 (some .int) "find" [] x0 D b 1 4 cN sN (0, res) s5 2 [(0, .ref (ad x0 a1)), (1, .ref (ad x0 a2)), (2, J x2_4)] [] := by
  intro n
  induction n with
  | zero =>
    intro x2_4 s5 h
    cases h
  | succ n ih =>
    intro x2_4 s5 h
    rw [x9_find_L2] at h
    refine gx_iload_n 2 2 dX9_find_2 rfl ?_
    refine gx_aload_n 3 0 dX9_find_3 rfl ?_
    obtain ⟨g10, h⟩ := gd_e h
    obtain ⟨z9, ez9, h⟩ := opt_e h
    refine gx_callF (As := []) (rest := [J x2_4]) (st' := [J z9.1, J x2_4]) 4 0 cw21 rfl g10  (mj2_size ez9 l) (lw_app (lw_in4 q858 q823 q825 q151) (lw_meth q827)) (by decide) (by decide +kernel) (by decide) rfl rfl (Nat.le_of_ble_eq_true rfl) dX9_find_4 rfl ?_
    refine gx_icmp_ge 9 40 dX9_find_9 (by decide) (fun c11 => ?_) (fun c11 => ?_)
    · replace h := if_t h c11
      refine gx_sub [] rfl ?_
      exact hk40 _ h
    · replace h := if_f h c11
      refine gx_aload_n 12 0 dX9_find_12 rfl ?_
      refine gx_iload_n 13 2 dX9_find_13 rfl ?_
      obtain ⟨g13, h⟩ := gd_e h
      obtain ⟨z12, ez12, h⟩ := opt_e h
      refine gx_callF (As := [J x2_4]) (rest := []) (st' := [.ref (ad x0 z12.1)]) 14 1 cw21 rfl g13  (mj2_get ez12 l) (lw_app (lw_in4 q860 q863 q865 q151) (lw_meth q867)) (by decide) (by decide +kernel) (by decide) rfl rfl (Nat.le_of_ble_eq_true rfl) dX9_find_14 rfl ?_
      obtain ⟨g14, h⟩ := gd_e h
      refine gx_castNa 19 g14 q878 dX9_find_19 ?_
      obtain ⟨g15, h⟩ := gd_e h
      obtain ⟨g16, h⟩ := gd_e h
      refine gx_getNa 22 g15 q901 g16 dX9_find_22 ?_
      refine gx_aload_n 25 1 dX9_find_25 rfl ?_
      obtain ⟨g18, h⟩ := gd_e h
      obtain ⟨z17, ez17, h⟩ := opt_e h
      refine gx_callV (As := [.ref (ad x0 a2)]) (rest := []) (st' := [J z17.1]) 26 1 cw22 g18 (mj6_equals ez17 l) (lw_V q879 q737 q738 q162 q739) (by decide +kernel) (by decide) rfl rfl (Nat.le_of_ble_eq_true rfl) dX9_find_26 rfl ?_
      refine gx_if_eq 29 34 dX9_find_29 (by decide) (fun c19 => ?_) (fun c19 => ?_)
      · replace h := if_t h c19
        obtain ⟨x2_20, ex2_20, h⟩ := bnd_e h
        refine gx_iinc 34 2 [(2, J x2_20), (0, .ref (ad x0 a1)), (1, .ref (ad x0 a2))] dX9_find_34 rfl ex2_20 (by decide) rfl ?_
        refine gx_goto 37 2 dX9_find_37 (by decide) ?_
        refine gx_sub [1, 2, 0] rfl ?_
        exact ih _ _ h
      · replace h := if_f h c19
        refine gx_sub [2] rfl ?_
        exact hk32 _ _ h
theorem mx9_find {b : Bool} {x0 : Nat} {D : XD} {a1 : Int} {a2 : Int} {s0 : XS} {res : Int × XS} (h : x9_find b a1 a2 s0 = some res) (l : Launch) : XMet0 l yX9_find cX9_find 3 (some .int) 4 b x0 D [.ref (ad x0 a1), .ref (ad x0 a2)] s0 1 res := by
  refine XMet0.ofn [(0, .ref (ad x0 a1)), (1, .ref (ad x0 a2))] "VerbAtDusk$Named" "find" rfl rfl (plainFor_of_name (by decide)) (Nat.le_of_ble_eq_true rfl) rfl ?_
  unfold x9_find at h
  generalize nC s0 = cN
  generalize nS s0 = sN
  refine gx_iconst 0 dX9_find_0 ?_
  obtain ⟨x2_3, ex2_3, h⟩ := bnd_e h
  refine gx_istore_n 1 [(2, J x2_3), (0, .ref (ad x0 a1)), (1, .ref (ad x0 a2))] dX9_find_1 (by decide) ex2_3 rfl ?_
  refine gx_sub [1, 2, 0] rfl ?_
  refine wx9_find_L2 (fun s21 h => ?_) (fun x2_22 s23 h => ?_) FU _ _ h
  · refine gx_iconst 40 dX9_find_40 ?_
    exact gx_iret 41 dX9_find_41 (rt h)
  · refine gx_iload_n 32 0 dX9_find_32 rfl ?_
    exact gx_iret 33 dX9_find_33 (rt h)
/-! VerbAtDusk$Named.letter -/
noncomputable def x9_letter (b : Bool) (a0 : Int) (a1 : Int) (s0 : XS) : Option (Int × XS) :=
  gd (isNa (tg b s0 a0)) <|
  gd (¬ (s0 a0 0) = -1) <|
  gd (tg b s0 (s0 a0 0) = 22) <|
  Option.bind (j6_length b (s0 a0 0) s0) fun z4 =>
  if i32 z4.1 ≤ i32 a1 then
    some (0, z4.2)
  else
    gd (isNa (tg b z4.2 a0)) <|
    gd (¬ (z4.2 a0 0) = -1) <|
    gd (tg b z4.2 (z4.2 a0 0) = 22) <|
    Option.bind (j6_charAt b (z4.2 a0 0) a1 z4.2) fun z9 =>
    some (((z9.1 - 97) + 1), z9.2)
theorem mx9_letter {b : Bool} {x0 : Nat} {D : XD} {a0 : Int} {a1 : Int} {s0 : XS} {res : Int × XS} (h : x9_letter b a0 a1 s0 = some res) (l : Launch) : XMet0 l yX9_letter cX9_letter 2 (some .int) 5 b x0 D [.ref (ad x0 a0), J a1] s0 1 res := by
  refine XMet0.ofn [(0, .ref (ad x0 a0)), (1, J a1)] "VerbAtDusk$Named" "letter" rfl rfl (plainFor_of_name (by decide)) (Nat.le_of_ble_eq_true rfl) rfl ?_
  unfold x9_letter at h
  generalize nC s0 = cN
  generalize nS s0 = sN
  refine gx_iload_n 0 1 dX9_letter_0 rfl ?_
  refine gx_aload_n 1 0 dX9_letter_1 rfl ?_
  obtain ⟨g2, h⟩ := gd_e h
  obtain ⟨g3, h⟩ := gd_e h
  refine gx_getNa 2 g2 q901 g3 dX9_letter_2 ?_
  obtain ⟨g5, h⟩ := gd_e h
  obtain ⟨z4, ez4, h⟩ := opt_e h
  refine gx_callV (As := []) (rest := [J a1]) (st' := [J z4.1, J a1]) 5 0 cw22 g5 (mj6_length ez4 l) (lw_V q1330 q843 q844 q162 q845) (by decide +kernel) (by decide) rfl rfl (Nat.le_of_ble_eq_true rfl) dX9_letter_5 rfl ?_
  refine gx_icmp_ge 8 27 dX9_letter_8 (by decide) (fun c6 => ?_) (fun c6 => ?_)
  · replace h := if_t h c6
    refine gx_iconst 27 dX9_letter_27 ?_
    exact gx_iret 28 dX9_letter_28 (rt h)
  · replace h := if_f h c6
    refine gx_aload_n 11 0 dX9_letter_11 rfl ?_
    obtain ⟨g7, h⟩ := gd_e h
    obtain ⟨g8, h⟩ := gd_e h
    refine gx_getNa 12 g7 q901 g8 dX9_letter_12 ?_
    refine gx_iload_n 15 1 dX9_letter_15 rfl ?_
    obtain ⟨g10, h⟩ := gd_e h
    obtain ⟨z9, ez9, h⟩ := opt_e h
    refine gx_callV (As := [J a1]) (rest := []) (st' := [J z9.1]) 16 1 cw22 g10 (mj6_charAt ez9 l) (lw_V q1331 q1332 q1333 q162 q1334) (by decide +kernel) (by decide) rfl rfl (Nat.le_of_ble_eq_true rfl) dX9_letter_16 rfl ?_
    refine gx_bipush 19 dX9_letter_19 (by decide) ?_
    refine gx_isub 21 dX9_letter_21 ?_
    refine gx_iconst 22 dX9_letter_22 ?_
    refine gx_iadd 23 dX9_letter_23 ?_
    refine gx_goto 24 28 dX9_letter_24 (by decide) ?_
    exact gx_iret 28 dX9_letter_28 (rt h)
/-! VerbAtDusk$Country.isNamed -/
noncomputable def x1_isNamed (b : Bool) (a0 : Int) (a1 : Int) (s0 : XS) : Option (Int × XS) :=
  gd (tg b s0 a0 = 2) <|
  gd (¬ (s0 a0 4) = -1) <|
  Option.bind (x9_find b (s0 a0 4) a1 s0) fun z4 =>
  bnd (fun (s5 : XS) =>
      some (1, s5)) fun j6 =>
  if i32 z4.1 = i32 (-1) then
    gd (tg b z4.2 a0 = 2) <|
    gd (¬ (z4.2 a0 5) = -1) <|
    Option.bind (x9_find b (z4.2 a0 5) a1 z4.2) fun z10 =>
    if i32 z10.1 = i32 (-1) then
      some (0, z10.2)
    else
      j6 z10.2
  else
    j6 z4.2
theorem mx1_isNamed {b : Bool} {x0 : Nat} {D : XD} {a0 : Int} {a1 : Int} {s0 : XS} {res : Int × XS} (h : x1_isNamed b a0 a1 s0 = some res) (l : Launch) : XMet0 l yX1_isNamed cX1_isNamed 2 (some .boolean) 5 b x0 D [.ref (ad x0 a0), .ref (ad x0 a1)] s0 1 res := by
  refine XMet0.ofn [(0, .ref (ad x0 a0)), (1, .ref (ad x0 a1))] "VerbAtDusk$Country" "isNamed" rfl rfl (plainFor_of_name (by decide)) (Nat.le_of_ble_eq_true rfl) rfl ?_
  unfold x1_isNamed at h
  generalize nC s0 = cN
  generalize nS s0 = sN
  refine gx_aload_n 0 0 dX1_isNamed_0 rfl ?_
  obtain ⟨g2, h⟩ := gd_e h
  obtain ⟨g3, h⟩ := gd_e h
  refine gx_get (t := 2) (k := 4) (v := .ref (ad x0 (s0 a0 4))) 1 cw2 (by decide) g2 q240 same_f (rf_ne g3) dX1_isNamed_1 ?_
  refine gx_aload_n 4 1 dX1_isNamed_4 rfl ?_
  obtain ⟨z4, ez4, h⟩ := opt_e h
  refine gx_callS (As := [.ref (ad x0 (s0 a0 4)), .ref (ad x0 a1)]) (rest := []) (st' := [J z4.1]) 5 2 (mx9_find ez4 l) (lw_S q854 q855 q167 q856) (by decide +kernel) (by decide) rfl rfl (Nat.le_of_ble_eq_true rfl) dX1_isNamed_5 rfl ?_
  refine gx_iconst 8 dX1_isNamed_8 ?_
  obtain ⟨j6, ej6, h⟩ := bnd_e h
  have hj6 : ∀ (s5 : XS), j6 s5 = some res → GX l cX1_isNamed "VerbAtDusk$Country" 2 (some .boolean) "isNamed" [] x0 D b 1 5 cN sN (0, res) s5 24 [] [] := by
    clear h
    intro s5 h
    subst ej6
    refine gx_iconst 24 dX1_isNamed_24 ?_
    refine gx_goto 25 29 dX1_isNamed_25 (by decide) ?_
    exact gx_zret 29 dX1_isNamed_29 (by decide) (rt h)
  refine gx_icmp_ne 9 24 dX1_isNamed_9 (by decide) (fun c7 => ?_) (fun c7 => ?_)
  · replace h := if_f h c7
    refine gx_sub [] rfl ?_
    exact hj6 _ h
  · replace h := if_t h c7
    refine gx_aload_n 12 0 dX1_isNamed_12 rfl ?_
    obtain ⟨g8, h⟩ := gd_e h
    obtain ⟨g9, h⟩ := gd_e h
    refine gx_get (t := 2) (k := 5) (v := .ref (ad x0 (z4.2 a0 5))) 13 cw2 (by decide) g8 q244 same_f (rf_ne g9) dX1_isNamed_13 ?_
    refine gx_aload_n 16 1 dX1_isNamed_16 rfl ?_
    obtain ⟨z10, ez10, h⟩ := opt_e h
    refine gx_callS (As := [.ref (ad x0 (z4.2 a0 5)), .ref (ad x0 a1)]) (rest := []) (st' := [J z10.1]) 17 2 (mx9_find ez10 l) (lw_S q854 q855 q167 q856) (by decide +kernel) (by decide) rfl rfl (Nat.le_of_ble_eq_true rfl) dX1_isNamed_17 rfl ?_
    refine gx_iconst 20 dX1_isNamed_20 ?_
    refine gx_icmp_eq 21 28 dX1_isNamed_21 (by decide) (fun c11 => ?_) (fun c11 => ?_)
    · replace h := if_t h c11
      refine gx_iconst 28 dX1_isNamed_28 ?_
      exact gx_zret 29 dX1_isNamed_29 (by decide) (rt h)
    · replace h := if_f h c11
      refine gx_sub [] rfl ?_
      exact hj6 _ h
/-! VerbAtDusk.letter -/
noncomputable def x0_letter (a1 : Int) (a2 : Int) (a3 : Int) (s0 : XS) : Option (Int × XS) :=
  Option.bind (x0_is a3 0 5 s0) fun z4 =>
  if i32 z4.1 = 0 then
    some ((-1), z4.2)
  else
    Option.bind (x0_is a1 0 1 z4.2) fun z6 =>
    if i32 z6.1 = 0 then
      some ((-1), z6.2)
    else
      if 0 ≤ i32 a2 then
        bnd (fun (x2_9 : Int) (x3_10 : Int) (w11 : Int) (s12 : XS) =>
            gd (tg true s12 w11 = 21) <|
            Option.bind (j2_size true w11 s12) fun z13 =>
            if i32 z13.1 ≤ i32 x2_9 then
              some ((-1), z13.2)
            else
              gd (tg true z13.2 w11 = 21) <|
              Option.bind (j2_get true w11 x2_9 z13.2) fun z16 =>
              gd (isNa (tg true z16.2 z16.1)) <|
              gd (isNa (tg true z16.2 z16.1)) <|
              Option.bind (x9_letter true z16.1 x3_10 z16.2) fun z19 =>
              some (z19.1, z19.2)) fun j21 =>
        if i32 a1 = 0 then
          gd (¬ (z6.2 0 0) = -1) <|
          gd (tg true z6.2 (z6.2 0 0) = 2) <|
          gd (¬ (z6.2 (z6.2 0 0) 4) = -1) <|
          j21 a2 a3 (z6.2 (z6.2 0 0) 4) z6.2
        else
          gd (¬ (z6.2 0 0) = -1) <|
          gd (tg true z6.2 (z6.2 0 0) = 2) <|
          gd (¬ (z6.2 (z6.2 0 0) 5) = -1) <|
          j21 a2 a3 (z6.2 (z6.2 0 0) 5) z6.2
      else
        some ((-1), z6.2)
theorem mx0_letter {x0 : Nat} {D : XD} {a1 : Int} {a2 : Int} {a3 : Int} {s0 : XS} {res : Int × XS} (h : x0_letter a1 a2 a3 s0 = some res) (l : Launch) : XMet0 l yX0_letter cX0_letter 5 (some .int) 6 true x0 D [.ref (ad x0 0), J a1, J a2, J a3] s0 1 res := by
  refine XMet0.ofn [(0, .ref (ad x0 0)), (1, J a1), (2, J a2), (3, J a3)] "VerbAtDusk" "letter" rfl rfl (plainFor_of_name (by decide)) (Nat.le_of_ble_eq_true rfl) rfl ?_
  unfold x0_letter at h
  generalize nC s0 = cN
  generalize nS s0 = sN
  refine gx_iload_n 0 3 dX0_letter_0 rfl ?_
  refine gx_iconst 1 dX0_letter_1 ?_
  refine gx_iconst 2 dX0_letter_2 ?_
  obtain ⟨z4, ez4, h⟩ := opt_e h
  refine gx_callS (As := [J a3, J 0, J 5]) (rest := []) (st' := [J z4.1]) 3 3 (mx0_is ez4 l) (lw_S q1320 q748 q147 q749) (by decide +kernel) (by decide) rfl rfl (Nat.le_of_ble_eq_true rfl) dX0_letter_3 rfl ?_
  refine gx_if_eq 6 22 dX0_letter_6 (by decide) (fun c5 => ?_) (fun c5 => ?_)
  · replace h := if_t h c5
    refine gx_iconst 22 dX0_letter_22 ?_
    exact gx_iret 23 dX0_letter_23 (rt h)
  · replace h := if_f h c5
    refine gx_iload_n 9 1 dX0_letter_9 rfl ?_
    refine gx_iconst 10 dX0_letter_10 ?_
    refine gx_iconst 11 dX0_letter_11 ?_
    obtain ⟨z6, ez6, h⟩ := opt_e h
    refine gx_callS (As := [J a1, J 0, J 1]) (rest := []) (st' := [J z6.1]) 12 3 (mx0_is ez6 l) (lw_S q1320 q748 q147 q749) (by decide +kernel) (by decide) rfl rfl (Nat.le_of_ble_eq_true rfl) dX0_letter_12 rfl ?_
    refine gx_if_eq 15 22 dX0_letter_15 (by decide) (fun c7 => ?_) (fun c7 => ?_)
    · replace h := if_t h c7
      refine gx_iconst 22 dX0_letter_22 ?_
      exact gx_iret 23 dX0_letter_23 (rt h)
    · replace h := if_f h c7
      refine gx_iload_n 18 2 dX0_letter_18 rfl ?_
      refine gx_if_ge 19 24 dX0_letter_19 (by decide) (fun c8 => ?_) (fun c8 => ?_)
      · replace h := if_t h c8
        refine gx_iload_n 24 1 dX0_letter_24 rfl ?_
        obtain ⟨j21, ej21, h⟩ := bnd_e h
        have hj21 : ∀ (x2_9 : Int) (x3_10 : Int) (w11 : Int) (s12 : XS), j21 x2_9 x3_10 w11 s12 = some res → GX l cX0_letter "VerbAtDusk" 5 (some .int) "letter" [] x0 D true 1 6 cN sN (0, res) s12 45 [(2, J x2_9), (3, J x3_10)] [.ref (ad x0 w11)] := by
          clear h
          intro x2_9 x3_10 w11 s12 h
          subst ej21
          refine gx_astorev 45 [(4, .ref (ad x0 w11)), (2, J x2_9), (3, J x3_10)] dX0_letter_45 (by decide) rfl rfl ?_
          refine gx_iload_n 47 1 dX0_letter_47 rfl ?_
          refine gx_aload 48 0 dX0_letter_48 rfl ?_
          obtain ⟨g14, h⟩ := gd_e h
          obtain ⟨z13, ez13, h⟩ := opt_e h
          refine gx_callF (As := []) (rest := [J x2_9]) (st' := [J z13.1, J x2_9]) 50 0 cw21 rfl g14  (mj2_size ez13 l) (lw_app (lw_in4 q1293 q823 q825 q151) (lw_meth q827)) (by decide) (by decide +kernel) (by decide) rfl rfl (Nat.le_of_ble_eq_true rfl) dX0_letter_50 rfl ?_
          refine gx_icmp_ge 55 76 dX0_letter_55 (by decide) (fun c15 => ?_) (fun c15 => ?_)
          · replace h := if_t h c15
            refine gx_iconst 76 dX0_letter_76 ?_
            exact gx_iret 77 dX0_letter_77 (rt h)
          · replace h := if_f h c15
            refine gx_aload 58 0 dX0_letter_58 rfl ?_
            refine gx_iload_n 60 1 dX0_letter_60 rfl ?_
            obtain ⟨g17, h⟩ := gd_e h
            obtain ⟨z16, ez16, h⟩ := opt_e h
            refine gx_callF (As := [J x2_9]) (rest := []) (st' := [.ref (ad x0 z16.1)]) 61 1 cw21 rfl g17  (mj2_get ez16 l) (lw_app (lw_in4 q1322 q863 q865 q151) (lw_meth q867)) (by decide) (by decide +kernel) (by decide) rfl rfl (Nat.le_of_ble_eq_true rfl) dX0_letter_61 rfl ?_
            obtain ⟨g18, h⟩ := gd_e h
            refine gx_castNa 66 g18 q1323 dX0_letter_66 ?_
            refine gx_iload_n 69 2 dX0_letter_69 rfl ?_
            obtain ⟨g20, h⟩ := gd_e h
            obtain ⟨z19, ez19, h⟩ := opt_e h
            refine gx_callNa (As := [J x3_10]) (rest := []) (st' := [J z19.1]) 70 1 g20 (mx9_letter ez19 l) q1324 (by decide) (by decide) rfl rfl (Nat.le_of_ble_eq_true rfl) dX0_letter_70 rfl ?_
            refine gx_goto 73 77 dX0_letter_73 (by decide) ?_
            exact gx_iret 77 dX0_letter_77 (rt h)
        refine gx_if_ne 25 38 dX0_letter_25 (by decide) (fun c22 => ?_) (fun c22 => ?_)
        · replace h := if_f h c22
          refine gx_aload_n 38 0 dX0_letter_38 rfl ?_
          obtain ⟨g23, h⟩ := gd_e h
          refine gx_get (t := 1) (k := 0) (v := .ref (ad x0 (z6.2 0 0))) 39 cw1 (by decide) (tgs (show stc 0 = (1, 0) by decide) (by decide)) q519 same_f (rf_ne g23) dX0_letter_39 ?_
          obtain ⟨g24, h⟩ := gd_e h
          obtain ⟨g25, h⟩ := gd_e h
          refine gx_getN (t := 2) (k := 5) (v := .ref (ad x0 (z6.2 (z6.2 0 0) 5))) 42 cw2 (by decide) g24 q247 same_f (rf_ne g25) dX0_letter_42 ?_
          refine gx_sub [2, 3] rfl ?_
          exact hj21 _ _ _ _ h
        · replace h := if_t h c22
          refine gx_aload_n 28 0 dX0_letter_28 rfl ?_
          obtain ⟨g26, h⟩ := gd_e h
          refine gx_get (t := 1) (k := 0) (v := .ref (ad x0 (z6.2 0 0))) 29 cw1 (by decide) (tgs (show stc 0 = (1, 0) by decide) (by decide)) q519 same_f (rf_ne g26) dX0_letter_29 ?_
          obtain ⟨g27, h⟩ := gd_e h
          obtain ⟨g28, h⟩ := gd_e h
          refine gx_getN (t := 2) (k := 4) (v := .ref (ad x0 (z6.2 (z6.2 0 0) 4))) 32 cw2 (by decide) g27 q242 same_f (rf_ne g28) dX0_letter_32 ?_
          refine gx_goto 35 45 dX0_letter_35 (by decide) ?_
          refine gx_sub [2, 3] rfl ?_
          exact hj21 _ _ _ _ h
      · replace h := if_f h c8
        refine gx_iconst 22 dX0_letter_22 ?_
        exact gx_iret 23 dX0_letter_23 (rt h)
