/-! THE SYSTEM: methods as functions, and their walks (written by xparts.py) -/
set_option maxRecDepth 100000
/-! java/lang/Throwable.init_2 -/
noncomputable def j3_init_2 (a0 : Int) (a1 : Int) (a2 : Int) (s0 : XS) : Option (Int × XS) :=
  gd (tg false s0 a0 = 4) <|
  gd (0 ≤ a0 ∧ ¬ (1438 ≤ a0 ∧ a0 < 1514)) <|
  gd (¬ a0 = -1) <|
  bnd (ux s0 a0 0 a0) fun s6 =>
  gd (tg false s6 a0 = 4) <|
  gd (0 ≤ a0 ∧ ¬ (1438 ≤ a0 ∧ a0 < 1514)) <|
  bnd (ux s6 a0 1 (s6 (-1) 107)) fun s9 =>
  gd (tg false s9 a0 = 4) <|
  gd (0 ≤ a0 ∧ ¬ (1438 ≤ a0 ∧ a0 < 1514)) <|
  bnd (ux s9 a0 2 (s9 (-1) 108)) fun s12 =>
  bnd (fun (x3_13 : Int) (s14 : XS) =>
      gd (tg false s14 a0 = 4) <|
      gd (0 ≤ a0 ∧ ¬ (1438 ≤ a0 ∧ a0 < 1514)) <|
      bnd (ux s14 a0 3 (-1)) fun s17 =>
      gd (tg false s17 a0 = 4) <|
      gd (0 ≤ a0 ∧ ¬ (1438 ≤ a0 ∧ a0 < 1514)) <|
      bnd (ux s17 a0 0 (-1)) fun s20 =>
      if i32 x3_13 = 0 then
        gd (tg false s20 a0 = 4) <|
        gd (0 ≤ a0 ∧ ¬ (1438 ≤ a0 ∧ a0 < 1514)) <|
        bnd (ux s20 a0 2 (-1)) fun s24 =>
        some (0, s24)
      else
        some (0, s20)) fun j25 =>
  if i32 a2 = 0 then
    gd (tg false s12 a0 = 4) <|
    gd (0 ≤ a0 ∧ ¬ (1438 ≤ a0 ∧ a0 < 1514)) <|
    bnd (ux s12 a0 1 (-1)) fun s29 =>
    j25 a1 s29
  else
    none
theorem mj3_init_2 {x0 : Nat} {D : XD} {a0 : Int} {a1 : Int} {a2 : Int} {s0 : XS} {res : Int × XS} (h : j3_init_2 a0 a1 a2 s0 = some res) (l : Launch) : XMet0 l yJ3_init_2 cJ3_init_2 5 none 2 false x0 D [.ref (ad x0 a0), .null, .null, J a1, J a2] s0 0 res := by
  refine XMet0.ofn [(0, .ref (ad x0 a0)), (1, .null), (2, .null), (3, J a1), (4, J a2)] "java/lang/Throwable" "<init>" rfl rfl (plainFor_of_name (by decide)) (Nat.le_of_ble_eq_true rfl) rfl ?_
  unfold j3_init_2 at h
  generalize nC s0 = cN
  generalize nS s0 = sN
  refine gx_aload_n 0 0 dJ3_init_2_0 rfl ?_
  refine gx_objInit 1 q304 q195 q196 dJ3_init_2_1 (by decide) (Nat.le_of_ble_eq_true rfl) ?_
  refine gx_aload_n 4 0 dJ3_init_2_4 rfl ?_
  refine gx_aload_n 5 0 dJ3_init_2_5 rfl ?_
  obtain ⟨g3, h⟩ := gd_e h
  obtain ⟨g4, h⟩ := gd_e h
  obtain ⟨g5, h⟩ := gd_e h
  obtain ⟨s6, es6, h⟩ := bnd_e h
  refine gx_put (t := 4) (k := 0) (x := a0) (ty := (.object "java/lang/Throwable")) 6 cw4 (by decide) g3 g4.1 g4.2 q336 same_f rfl (by decide +kernel) (refOk rfl _).1 (refOk rfl _).2 ((congrArg (rf x0) (ux_s _ _ _ _)).trans (rf_ne g5)) es6 dJ3_init_2_6 ?_
  refine gx_aload_n 9 0 dJ3_init_2_9 rfl ?_
  refine gx_getsN 10 7 (List.mem_of_getElem? (i := 6) rfl) q305 dJ3_init_2_10 ?_
  obtain ⟨g7, h⟩ := gd_e h
  obtain ⟨g8, h⟩ := gd_e h
  obtain ⟨s9, es9, h⟩ := bnd_e h
  refine gx_put (t := 4) (k := 1) (x := (s6 (-1) 107)) (ty := (.array (.object "java/lang/StackTraceElement"))) 13 cw4 (by decide) g7 g8.1 g8.2 q337 same_f rfl (by decide +kernel) (rfOk rfl _).1 (rfOk rfl _).2 (congrArg (rf x0) (ux_s _ _ _ _)) es9 dJ3_init_2_13 ?_
  refine gx_aload_n 16 0 dJ3_init_2_16 rfl ?_
  refine gx_getsN 17 8 (List.mem_of_getElem? (i := 7) rfl) q307 dJ3_init_2_17 ?_
  obtain ⟨g10, h⟩ := gd_e h
  obtain ⟨g11, h⟩ := gd_e h
  obtain ⟨s12, es12, h⟩ := bnd_e h
  refine gx_put (t := 4) (k := 2) (x := (s9 (-1) 108)) (ty := (.object "java/util/List")) 20 cw4 (by decide) g10 g11.1 g11.2 q338 same_f rfl (by decide +kernel) (rfOk rfl _).1 (rfOk rfl _).2 (congrArg (rf x0) (ux_s _ _ _ _)) es12 dJ3_init_2_20 ?_
  refine gx_iload 23 4 dJ3_init_2_23 rfl ?_
  obtain ⟨j25, ej25, h⟩ := bnd_e h
  have hj25 : ∀ (x3_13 : Int) (s14 : XS), j25 x3_13 s14 = some res → GX l cJ3_init_2 "java/lang/Throwable" 5 none "<init>" [] x0 D false 0 2 cN sN (0, res) s14 41 [(0, .ref (ad x0 a0)), (1, .null), (2, .null), (3, J x3_13)] [] := by
    clear h
    intro x3_13 s14 h
    subst ej25
    refine gx_aload_n 41 0 dJ3_init_2_41 rfl ?_
    refine gx_aload_nN 42 1 dJ3_init_2_42 rfl ?_
    obtain ⟨g15, h⟩ := gd_e h
    obtain ⟨g16, h⟩ := gd_e h
    obtain ⟨s17, es17, h⟩ := bnd_e h
    refine gx_put (t := 4) (k := 3) (x := (-1)) (ty := (.object "java/lang/String")) 43 cw4 (by decide) g15 g16.1 g16.2 q335 same_f rfl (by decide +kernel) (nullOk rfl).1 (nullOk rfl).2 ((congrArg (rf x0) (ux_s _ _ _ _)).trans rf_nu) es17 dJ3_init_2_43 ?_
    refine gx_aload_n 46 0 dJ3_init_2_46 rfl ?_
    refine gx_aload_nN 47 2 dJ3_init_2_47 rfl ?_
    obtain ⟨g18, h⟩ := gd_e h
    obtain ⟨g19, h⟩ := gd_e h
    obtain ⟨s20, es20, h⟩ := bnd_e h
    refine gx_put (t := 4) (k := 0) (x := (-1)) (ty := (.object "java/lang/Throwable")) 48 cw4 (by decide) g18 g19.1 g19.2 q336 same_f rfl (by decide +kernel) (nullOk rfl).1 (nullOk rfl).2 ((congrArg (rf x0) (ux_s _ _ _ _)).trans rf_nu) es20 dJ3_init_2_48 ?_
    refine gx_iload_n 51 3 dJ3_init_2_51 rfl ?_
    refine gx_if_ne 52 60 dJ3_init_2_52 (by decide) (fun c21 => ?_) (fun c21 => ?_)
    · replace h := if_f h c21
      exact gx_vret 60 dJ3_init_2_60 (rt h)
    · replace h := if_t h c21
      refine gx_aload_n 55 0 dJ3_init_2_55 rfl ?_
      refine gx_null 56 dJ3_init_2_56 ?_
      obtain ⟨g22, h⟩ := gd_e h
      obtain ⟨g23, h⟩ := gd_e h
      obtain ⟨s24, es24, h⟩ := bnd_e h
      refine gx_put (t := 4) (k := 2) (x := (-1)) (ty := (.object "java/util/List")) 57 cw4 (by decide) g22 g23.1 g23.2 q338 same_f rfl (by decide +kernel) (nullOk rfl).1 (nullOk rfl).2 ((congrArg (rf x0) (ux_s _ _ _ _)).trans rf_nu) es24 dJ3_init_2_57 ?_
      exact gx_vret 60 dJ3_init_2_60 (rt h)
  refine gx_if_eq 25 36 dJ3_init_2_25 (by decide) (fun c26 => ?_) (fun c26 => ?_)
  · replace h := if_t h c26
    refine gx_aload_n 36 0 dJ3_init_2_36 rfl ?_
    refine gx_null 37 dJ3_init_2_37 ?_
    obtain ⟨g27, h⟩ := gd_e h
    obtain ⟨g28, h⟩ := gd_e h
    obtain ⟨s29, es29, h⟩ := bnd_e h
    refine gx_put (t := 4) (k := 1) (x := (-1)) (ty := (.array (.object "java/lang/StackTraceElement"))) 38 cw4 (by decide) g27 g28.1 g28.2 q337 same_f rfl (by decide +kernel) (nullOk rfl).1 (nullOk rfl).2 ((congrArg (rf x0) (ux_s _ _ _ _)).trans rf_nu) es29 dJ3_init_2_38 ?_
    refine gx_sub [0, 1, 2, 3] rfl ?_
    exact hj25 _ _ h
  · replace h := if_f h c26
    refine gx_aload_n 28 0 dJ3_init_2_28 rfl ?_
    cases h
/-! java/lang/Exception.init -/
noncomputable def j4_init (a0 : Int) (a1 : Int) (a2 : Int) (s0 : XS) : Option (Int × XS) :=
  Option.bind (j3_init_2 a0 a1 a2 s0) fun z3 =>
  some (0, z3.2)
theorem mj4_init {x0 : Nat} {D : XD} {a0 : Int} {a1 : Int} {a2 : Int} {s0 : XS} {res : Int × XS} (h : j4_init a0 a1 a2 s0 = some res) (l : Launch) : XMet0 l yJ4_init cJ4_init 5 none 3 false x0 D [.ref (ad x0 a0), .null, .null, J a1, J a2] s0 0 res := by
  refine XMet0.ofn [(0, .ref (ad x0 a0)), (1, .null), (2, .null), (3, J a1), (4, J a2)] "java/lang/Exception" "<init>" rfl rfl (plainFor_of_name (by decide)) (Nat.le_of_ble_eq_true rfl) rfl ?_
  unfold j4_init at h
  generalize nC s0 = cN
  generalize nS s0 = sN
  refine gx_aload_n 0 0 dJ4_init_0 rfl ?_
  refine gx_aload_nN 1 1 dJ4_init_1 rfl ?_
  refine gx_aload_nN 2 2 dJ4_init_2 rfl ?_
  refine gx_iload_n 3 3 dJ4_init_3 rfl ?_
  refine gx_iload 4 4 dJ4_init_4 rfl ?_
  obtain ⟨z3, ez3, h⟩ := opt_e h
  refine gx_callI (As := [.null, .null, J a1, J a2]) (rest := []) 6 4 (mj3_init_2 ez3 l) q329 q153 q327 q328 rfl (by decide +kernel) (by decide) rfl rfl (Nat.le_of_ble_eq_true rfl) dJ4_init_6 ?_
  exact gx_vret 9 dJ4_init_9 (rt h)
/-! java/lang/RuntimeException.init -/
noncomputable def j5_init (a0 : Int) (a1 : Int) (a2 : Int) (s0 : XS) : Option (Int × XS) :=
  Option.bind (j4_init a0 a1 a2 s0) fun z3 =>
  some (0, z3.2)
theorem mj5_init {x0 : Nat} {D : XD} {a0 : Int} {a1 : Int} {a2 : Int} {s0 : XS} {res : Int × XS} (h : j5_init a0 a1 a2 s0 = some res) (l : Launch) : XMet0 l yJ5_init cJ5_init 5 none 4 false x0 D [.ref (ad x0 a0), .null, .null, J a1, J a2] s0 0 res := by
  refine XMet0.ofn [(0, .ref (ad x0 a0)), (1, .null), (2, .null), (3, J a1), (4, J a2)] "java/lang/RuntimeException" "<init>" rfl rfl (plainFor_of_name (by decide)) (Nat.le_of_ble_eq_true rfl) rfl ?_
  unfold j5_init at h
  generalize nC s0 = cN
  generalize nS s0 = sN
  refine gx_aload_n 0 0 dJ5_init_0 rfl ?_
  refine gx_aload_nN 1 1 dJ5_init_1 rfl ?_
  refine gx_aload_nN 2 2 dJ5_init_2 rfl ?_
  refine gx_iload_n 3 3 dJ5_init_3 rfl ?_
  refine gx_iload 4 4 dJ5_init_4 rfl ?_
  obtain ⟨z3, ez3, h⟩ := opt_e h
  refine gx_callI (As := [.null, .null, J a1, J a2]) (rest := []) 6 4 (mj4_init ez3 l) q326 q154 q324 q325 rfl (by decide +kernel) (by decide) rfl rfl (Nat.le_of_ble_eq_true rfl) dJ5_init_6 ?_
  exact gx_vret 9 dJ5_init_9 (rt h)
/-! VerbAtDusk$Fault.init -/
noncomputable def x3_init (a0 : Int) (s0 : XS) : Option (Int × XS) :=
  Option.bind (j5_init a0 0 0 s0) fun z1 =>
  some (0, z1.2)
theorem mx3_init {x0 : Nat} {D : XD} {a0 : Int} {s0 : XS} {res : Int × XS} (h : x3_init a0 s0 = some res) (l : Launch) : XMet0 l yX3_init cX3_init 1 none 5 false x0 D [.ref (ad x0 a0)] s0 0 res := by
  refine XMet0.ofn [(0, .ref (ad x0 a0))] "VerbAtDusk$Fault" "<init>" rfl rfl (plainFor_of_name (by decide)) (Nat.le_of_ble_eq_true rfl) rfl ?_
  unfold x3_init at h
  generalize nC s0 = cN
  generalize nS s0 = sN
  refine gx_aload_n 0 0 dX3_init_0 rfl ?_
  refine gx_null 1 dX3_init_1 ?_
  refine gx_null 2 dX3_init_2 ?_
  refine gx_iconst 3 dX3_init_3 ?_
  refine gx_iconst 4 dX3_init_4 ?_
  obtain ⟨z1, ez1, h⟩ := opt_e h
  refine gx_callI (As := [.null, .null, J 0, J 0]) (rest := []) 5 4 (mj5_init ez1 l) q323 q155 q321 q322 rfl (by decide +kernel) (by decide) rfl rfl (Nat.le_of_ble_eq_true rfl) dX3_init_5 ?_
  exact gx_vret 8 dX3_init_8 (rt h)
/-! VerbAtDusk$Reader.init -/
noncomputable def x2_init (a0 : Int) (a1 : Int) (s0 : XS) : Option (Int × XS) :=
  gd (tg false s0 a0 = 3) <|
  gd (0 ≤ a0 ∧ ¬ (1438 ≤ a0 ∧ a0 < 1514)) <|
  gd (¬ a1 = -1) <|
  bnd (ux s0 a0 7 a1) fun s5 =>
  gd (0 ≤ s5 (-1) 0 ∧ 0 ≤ s5 (-1) 1) <|
  bnd (nwx s5 4 0 8 (dfl 4)) fun s7 =>
  Option.bind (x3_init (s5 (-1) 0) s7) fun z8 =>
  gd (tg false z8.2 a0 = 3) <|
  gd (0 ≤ a0 ∧ ¬ (1438 ≤ a0 ∧ a0 < 1514)) <|
  gd (¬ (s5 (-1) 0) = -1) <|
  bnd (ux z8.2 a0 0 (s5 (-1) 0)) fun s12 =>
  some (0, s12)
theorem mx2_init {x0 : Nat} {D : XD} {a0 : Int} {a1 : Int} {s0 : XS} {res : Int × XS} (h : x2_init a0 a1 s0 = some res) (l : Launch) : XMet0 l yX2_init cX2_init 2 none 6 false x0 D [.ref (ad x0 a0), .ref (ad x0 a1)] s0 0 res := by
  refine XMet0.ofn [(0, .ref (ad x0 a0)), (1, .ref (ad x0 a1))] "VerbAtDusk$Reader" "<init>" rfl rfl (plainFor_of_name (by decide)) (Nat.le_of_ble_eq_true rfl) rfl ?_
  unfold x2_init at h
  generalize nC s0 = cN
  generalize nS s0 = sN
  refine gx_aload_n 0 0 dX2_init_0 rfl ?_
  refine gx_aload_n 1 1 dX2_init_1 rfl ?_
  obtain ⟨g2, h⟩ := gd_e h
  obtain ⟨g3, h⟩ := gd_e h
  obtain ⟨g4, h⟩ := gd_e h
  obtain ⟨s5, es5, h⟩ := bnd_e h
  refine gx_putF (t := 3) (k := 7) (x := a1) (ty := (.object "VerbAtDusk")) 2 rfl cw3 (by decide) g2 g3.1 g3.2 q359 same_f rfl rfl (by decide +kernel) (refOk rfl _).1 (refOk rfl _).2 ((congrArg (rf x0) (ux_s _ _ _ _)).trans (rf_ne g4)) es5 dX2_init_2 ?_
  refine gx_aload_n 5 0 dX2_init_5 rfl ?_
  refine gx_objInit 6 q278 q195 q196 dX2_init_6 (by decide) (Nat.le_of_ble_eq_true rfl) ?_
  refine gx_aload_n 9 0 dX2_init_9 rfl ?_
  obtain ⟨g6, h⟩ := gd_e h
  obtain ⟨s7, es7, h⟩ := bnd_e h
  refine gx_new (t := 4) 10 g6 cw4 tyX3 tyX3_ok (df_4 false x0 _) q279 q280 q156 es7 dX2_init_10 ?_
  refine gx_dup 13 dX2_init_13 rfl ?_
  obtain ⟨z8, ez8, h⟩ := opt_e h
  refine gx_callI (As := []) (rest := [.ref (ad x0 (s5 (-1) 0)), .ref (ad x0 a0)]) 14 0 (mx3_init ez8 l) q320 q156 q318 q319 rfl (by decide +kernel) (by decide) rfl rfl (Nat.le_of_ble_eq_true rfl) dX2_init_14 ?_
  obtain ⟨g9, h⟩ := gd_e h
  obtain ⟨g10, h⟩ := gd_e h
  obtain ⟨g11, h⟩ := gd_e h
  obtain ⟨s12, es12, h⟩ := bnd_e h
  refine gx_putF (t := 3) (k := 0) (x := (s5 (-1) 0)) (ty := (.object "VerbAtDusk$Fault")) 17 rfl cw3 (by decide) g9 g10.1 g10.2 q352 same_f rfl rfl (by decide +kernel) (refOk rfl _).1 (refOk rfl _).2 ((congrArg (rf x0) (ux_s _ _ _ _)).trans (rf_ne g11)) es12 dX2_init_17 ?_
  exact gx_vret 20 dX2_init_20 (rt h)
/-! VerbAtDusk$Moment.init -/
noncomputable def x4_init (a0 : Int) (s0 : XS) : Option (Int × XS) :=
  gd (0 ≤ s0 (-1) 0 ∧ 0 ≤ s0 (-1) 1) <|
  gd (0 ≤ i32 9 ∧ i32 9 < 1000000) <|
  bnd (nwx s0 104 (i32 9) (i32 9) (fun _ => 0)) fun s3 =>
  gd (tg false s3 a0 = 5) <|
  gd (0 ≤ a0 ∧ ¬ (1438 ≤ a0 ∧ a0 < 1514)) <|
  gd (¬ (s0 (-1) 0) = -1) <|
  bnd (ux s3 a0 0 (s0 (-1) 0)) fun s7 =>
  some (0, s7)
theorem mx4_init {x0 : Nat} {D : XD} {a0 : Int} {s0 : XS} {res : Int × XS} (h : x4_init a0 s0 = some res) (l : Launch) : XMet0 l yX4_init cX4_init 1 none 2 false x0 D [.ref (ad x0 a0)] s0 0 res := by
  refine XMet0.ofn [(0, .ref (ad x0 a0))] "VerbAtDusk$Moment" "<init>" rfl rfl (plainFor_of_name (by decide)) (Nat.le_of_ble_eq_true rfl) rfl ?_
  unfold x4_init at h
  generalize nC s0 = cN
  generalize nS s0 = sN
  refine gx_aload_n 0 0 dX4_init_0 rfl ?_
  refine gx_objInit 1 q382 q195 q196 dX4_init_1 (by decide) (Nat.le_of_ble_eq_true rfl) ?_
  refine gx_aload_n 4 0 dX4_init_4 rfl ?_
  refine gx_bipush 5 dX4_init_5 (by decide) ?_
  obtain ⟨g1, h⟩ := gd_e h
  obtain ⟨g2, h⟩ := gd_e h
  obtain ⟨s3, es3, h⟩ := bnd_e h
  refine gx_newarr (t := 104) (atype := .long) 7 g1 (by decide) (by decide) g2 q390 (by decide) (fun _ _ h => h) (fun _ _ => rfl) es3 dX4_init_7 ?_
  obtain ⟨g4, h⟩ := gd_e h
  obtain ⟨g5, h⟩ := gd_e h
  obtain ⟨g6, h⟩ := gd_e h
  obtain ⟨s7, es7, h⟩ := bnd_e h
  refine gx_putF (t := 5) (k := 0) (x := (s0 (-1) 0)) (ty := (.array .long)) 9 rfl cw5 (by decide) g4 g5.1 g5.2 q383 same_f rfl rfl (by decide +kernel) (refOk rfl _).1 (refOk rfl _).2 ((congrArg (rf x0) (ux_s _ _ _ _)).trans (rf_ne g6)) es7 dX4_init_9 ?_
  exact gx_vret 12 dX4_init_12 (rt h)
/-! VerbAtDusk$Walk.init -/
noncomputable def x5_init (a0 : Int) (a1 : Int) (s0 : XS) : Option (Int × XS) :=
  gd (tg false s0 a0 = 6) <|
  gd (0 ≤ a0 ∧ ¬ (1438 ≤ a0 ∧ a0 < 1514)) <|
  gd (¬ a1 = -1) <|
  bnd (ux s0 a0 5 a1) fun s5 =>
  gd (0 ≤ s5 (-1) 0 ∧ 0 ≤ s5 (-1) 1) <|
  gd (0 ≤ i32 6 ∧ i32 6 < 1000000) <|
  bnd (nwx s5 101 (i32 6) (i32 6) (fun _ => 0)) fun s8 =>
  gd (tg false s8 a0 = 6) <|
  gd (0 ≤ a0 ∧ ¬ (1438 ≤ a0 ∧ a0 < 1514)) <|
  gd (¬ (s5 (-1) 0) = -1) <|
  bnd (ux s8 a0 0 (s5 (-1) 0)) fun s12 =>
  gd (0 ≤ s12 (-1) 0 ∧ 0 ≤ s12 (-1) 1) <|
  gd (0 ≤ i32 6 ∧ i32 6 < 1000000) <|
  bnd (nwx s12 101 (i32 6) (i32 6) (fun _ => 0)) fun s15 =>
  gd (tg false s15 a0 = 6) <|
  gd (0 ≤ a0 ∧ ¬ (1438 ≤ a0 ∧ a0 < 1514)) <|
  gd (¬ (s12 (-1) 0) = -1) <|
  bnd (ux s15 a0 1 (s12 (-1) 0)) fun s19 =>
  gd (0 ≤ s19 (-1) 0 ∧ 0 ≤ s19 (-1) 1) <|
  gd (0 ≤ i32 6 ∧ i32 6 < 1000000) <|
  bnd (nwx s19 101 (i32 6) (i32 6) (fun _ => 0)) fun s22 =>
  gd (tg false s22 a0 = 6) <|
  gd (0 ≤ a0 ∧ ¬ (1438 ≤ a0 ∧ a0 < 1514)) <|
  gd (¬ (s19 (-1) 0) = -1) <|
  bnd (ux s22 a0 2 (s19 (-1) 0)) fun s26 =>
  gd (0 ≤ s26 (-1) 0 ∧ 0 ≤ s26 (-1) 1) <|
  gd (0 ≤ i32 6 ∧ i32 6 < 1000000) <|
  bnd (nwx s26 101 (i32 6) (i32 6) (fun _ => 0)) fun s29 =>
  gd (tg false s29 a0 = 6) <|
  gd (0 ≤ a0 ∧ ¬ (1438 ≤ a0 ∧ a0 < 1514)) <|
  gd (¬ (s26 (-1) 0) = -1) <|
  bnd (ux s29 a0 3 (s26 (-1) 0)) fun s33 =>
  some (0, s33)
theorem mx5_init {x0 : Nat} {D : XD} {a0 : Int} {a1 : Int} {s0 : XS} {res : Int × XS} (h : x5_init a0 a1 s0 = some res) (l : Launch) : XMet0 l yX5_init cX5_init 2 none 2 false x0 D [.ref (ad x0 a0), .ref (ad x0 a1)] s0 0 res := by
  refine XMet0.ofn [(0, .ref (ad x0 a0)), (1, .ref (ad x0 a1))] "VerbAtDusk$Walk" "<init>" rfl rfl (plainFor_of_name (by decide)) (Nat.le_of_ble_eq_true rfl) rfl ?_
  unfold x5_init at h
  generalize nC s0 = cN
  generalize nS s0 = sN
  refine gx_aload_n 0 0 dX5_init_0 rfl ?_
  refine gx_aload_n 1 1 dX5_init_1 rfl ?_
  obtain ⟨g2, h⟩ := gd_e h
  obtain ⟨g3, h⟩ := gd_e h
  obtain ⟨g4, h⟩ := gd_e h
  obtain ⟨s5, es5, h⟩ := bnd_e h
  refine gx_putF (t := 6) (k := 5) (x := a1) (ty := (.object "VerbAtDusk")) 2 rfl cw6 (by decide) g2 g3.1 g3.2 q404 same_f rfl rfl (by decide +kernel) (refOk rfl _).1 (refOk rfl _).2 ((congrArg (rf x0) (ux_s _ _ _ _)).trans (rf_ne g4)) es5 dX5_init_2 ?_
  refine gx_aload_n 5 0 dX5_init_5 rfl ?_
  refine gx_objInit 6 q396 q195 q196 dX5_init_6 (by decide) (Nat.le_of_ble_eq_true rfl) ?_
  refine gx_aload_n 9 0 dX5_init_9 rfl ?_
  refine gx_bipush 10 dX5_init_10 (by decide) ?_
  obtain ⟨g6, h⟩ := gd_e h
  obtain ⟨g7, h⟩ := gd_e h
  obtain ⟨s8, es8, h⟩ := bnd_e h
  refine gx_newarr (t := 101) (atype := .int) 12 g6 (by decide) (by decide) g7 q418 (by decide) (fun _ _ h => h) (fun _ _ => rfl) es8 dX5_init_12 ?_
  obtain ⟨g9, h⟩ := gd_e h
  obtain ⟨g10, h⟩ := gd_e h
  obtain ⟨g11, h⟩ := gd_e h
  obtain ⟨s12, es12, h⟩ := bnd_e h
  refine gx_putF (t := 6) (k := 0) (x := (s5 (-1) 0)) (ty := (.array .int)) 14 rfl cw6 (by decide) g9 g10.1 g10.2 q397 same_f rfl rfl (by decide +kernel) (refOk rfl _).1 (refOk rfl _).2 ((congrArg (rf x0) (ux_s _ _ _ _)).trans (rf_ne g11)) es12 dX5_init_14 ?_
  refine gx_aload_n 17 0 dX5_init_17 rfl ?_
  refine gx_bipush 18 dX5_init_18 (by decide) ?_
  obtain ⟨g13, h⟩ := gd_e h
  obtain ⟨g14, h⟩ := gd_e h
  obtain ⟨s15, es15, h⟩ := bnd_e h
  refine gx_newarr (t := 101) (atype := .int) 20 g13 (by decide) (by decide) g14 q418 (by decide) (fun _ _ h => h) (fun _ _ => rfl) es15 dX5_init_20 ?_
  obtain ⟨g16, h⟩ := gd_e h
  obtain ⟨g17, h⟩ := gd_e h
  obtain ⟨g18, h⟩ := gd_e h
  obtain ⟨s19, es19, h⟩ := bnd_e h
  refine gx_putF (t := 6) (k := 1) (x := (s12 (-1) 0)) (ty := (.array .int)) 22 rfl cw6 (by decide) g16 g17.1 g17.2 q399 same_f rfl rfl (by decide +kernel) (refOk rfl _).1 (refOk rfl _).2 ((congrArg (rf x0) (ux_s _ _ _ _)).trans (rf_ne g18)) es19 dX5_init_22 ?_
  refine gx_aload_n 25 0 dX5_init_25 rfl ?_
  refine gx_bipush 26 dX5_init_26 (by decide) ?_
  obtain ⟨g20, h⟩ := gd_e h
  obtain ⟨g21, h⟩ := gd_e h
  obtain ⟨s22, es22, h⟩ := bnd_e h
  refine gx_newarr (t := 101) (atype := .int) 28 g20 (by decide) (by decide) g21 q418 (by decide) (fun _ _ h => h) (fun _ _ => rfl) es22 dX5_init_28 ?_
  obtain ⟨g23, h⟩ := gd_e h
  obtain ⟨g24, h⟩ := gd_e h
  obtain ⟨g25, h⟩ := gd_e h
  obtain ⟨s26, es26, h⟩ := bnd_e h
  refine gx_putF (t := 6) (k := 2) (x := (s19 (-1) 0)) (ty := (.array .int)) 30 rfl cw6 (by decide) g23 g24.1 g24.2 q400 same_f rfl rfl (by decide +kernel) (refOk rfl _).1 (refOk rfl _).2 ((congrArg (rf x0) (ux_s _ _ _ _)).trans (rf_ne g25)) es26 dX5_init_30 ?_
  refine gx_aload_n 33 0 dX5_init_33 rfl ?_
  refine gx_bipush 34 dX5_init_34 (by decide) ?_
  obtain ⟨g27, h⟩ := gd_e h
  obtain ⟨g28, h⟩ := gd_e h
  obtain ⟨s29, es29, h⟩ := bnd_e h
  refine gx_newarr (t := 101) (atype := .int) 36 g27 (by decide) (by decide) g28 q418 (by decide) (fun _ _ h => h) (fun _ _ => rfl) es29 dX5_init_36 ?_
  obtain ⟨g30, h⟩ := gd_e h
  obtain ⟨g31, h⟩ := gd_e h
  obtain ⟨g32, h⟩ := gd_e h
  obtain ⟨s33, es33, h⟩ := bnd_e h
  refine gx_putF (t := 6) (k := 3) (x := (s26 (-1) 0)) (ty := (.array .int)) 38 rfl cw6 (by decide) g30 g31.1 g31.2 q401 same_f rfl rfl (by decide +kernel) (refOk rfl _).1 (refOk rfl _).2 ((congrArg (rf x0) (ux_s _ _ _ _)).trans (rf_ne g32)) es33 dX5_init_38 ?_
  exact gx_vret 41 dX5_init_41 (rt h)
/-! VerbAtDusk$Giving.init -/
noncomputable def x6_init (a0 : Int) (a1 : Int) (s0 : XS) : Option (Int × XS) :=
  gd (tg false s0 a0 = 7) <|
  gd (0 ≤ a0 ∧ ¬ (1438 ≤ a0 ∧ a0 < 1514)) <|
  gd (¬ a1 = -1) <|
  bnd (ux s0 a0 8 a1) fun s5 =>
  gd (0 ≤ s5 (-1) 0 ∧ 0 ≤ s5 (-1) 1) <|
  bnd (mnx s5 112 103 (i32 6) (i32 7)) fun s7 =>
  gd (tg false s7 a0 = 7) <|
  gd (0 ≤ a0 ∧ ¬ (1438 ≤ a0 ∧ a0 < 1514)) <|
  gd (¬ (s5 (-1) 0) = -1) <|
  bnd (ux s7 a0 0 (s5 (-1) 0)) fun s11 =>
  gd (0 ≤ s11 (-1) 0 ∧ 0 ≤ s11 (-1) 1) <|
  bnd (mnx s11 113 104 (i32 6) (i32 7)) fun s13 =>
  gd (tg false s13 a0 = 7) <|
  gd (0 ≤ a0 ∧ ¬ (1438 ≤ a0 ∧ a0 < 1514)) <|
  gd (¬ (s11 (-1) 0) = -1) <|
  bnd (ux s13 a0 1 (s11 (-1) 0)) fun s17 =>
  gd (0 ≤ s17 (-1) 0 ∧ 0 ≤ s17 (-1) 1) <|
  gd (0 ≤ i32 6 ∧ i32 6 < 1000000) <|
  bnd (nwx s17 101 (i32 6) (i32 6) (fun _ => 0)) fun s20 =>
  gd (tg false s20 a0 = 7) <|
  gd (0 ≤ a0 ∧ ¬ (1438 ≤ a0 ∧ a0 < 1514)) <|
  gd (¬ (s17 (-1) 0) = -1) <|
  bnd (ux s20 a0 2 (s17 (-1) 0)) fun s24 =>
  gd (0 ≤ s24 (-1) 0 ∧ 0 ≤ s24 (-1) 1) <|
  gd (0 ≤ i32 6 ∧ i32 6 < 1000000) <|
  bnd (nwx s24 101 (i32 6) (i32 6) (fun _ => 0)) fun s27 =>
  gd (tg false s27 a0 = 7) <|
  gd (0 ≤ a0 ∧ ¬ (1438 ≤ a0 ∧ a0 < 1514)) <|
  gd (¬ (s24 (-1) 0) = -1) <|
  bnd (ux s27 a0 3 (s24 (-1) 0)) fun s31 =>
  some (0, s31)
theorem mx6_init {x0 : Nat} {D : XD} {a0 : Int} {a1 : Int} {s0 : XS} {res : Int × XS} (h : x6_init a0 a1 s0 = some res) (l : Launch) : XMet0 l yX6_init cX6_init 2 none 2 false x0 D [.ref (ad x0 a0), .ref (ad x0 a1)] s0 0 res := by
  refine XMet0.ofn [(0, .ref (ad x0 a0)), (1, .ref (ad x0 a1))] "VerbAtDusk$Giving" "<init>" rfl rfl (plainFor_of_name (by decide)) (Nat.le_of_ble_eq_true rfl) rfl ?_
  unfold x6_init at h
  generalize nC s0 = cN
  generalize nS s0 = sN
  refine gx_aload_n 0 0 dX6_init_0 rfl ?_
  refine gx_aload_n 1 1 dX6_init_1 rfl ?_
  obtain ⟨g2, h⟩ := gd_e h
  obtain ⟨g3, h⟩ := gd_e h
  obtain ⟨g4, h⟩ := gd_e h
  obtain ⟨s5, es5, h⟩ := bnd_e h
  refine gx_putF (t := 7) (k := 8) (x := a1) (ty := (.object "VerbAtDusk")) 2 rfl cw7 (by decide) g2 g3.1 g3.2 q444 same_f rfl rfl (by decide +kernel) (refOk rfl _).1 (refOk rfl _).2 ((congrArg (rf x0) (ux_s _ _ _ _)).trans (rf_ne g4)) es5 dX6_init_2 ?_
  refine gx_aload_n 5 0 dX6_init_5 rfl ?_
  refine gx_objInit 6 q424 q195 q196 dX6_init_6 (by decide) (Nat.le_of_ble_eq_true rfl) ?_
  refine gx_aload_n 9 0 dX6_init_9 rfl ?_
  refine gx_bipush 10 dX6_init_10 (by decide) ?_
  refine gx_bipush 12 dX6_init_12 (by decide) ?_
  obtain ⟨g6, h⟩ := gd_e h
  obtain ⟨s7, es7, h⟩ := bnd_e h
  refine gx_multi (t := 112) (ti := 103) (ty := .boolean) 14 g6 (by decide) (by decide) (by decide) (by decide) (by decide) (by decide) (fun _ _ _ => rfl) (fun _ _ => rfl) (by decide +kernel) (by decide) rfl rfl q425 (fun _ h => h.2.2.2.2.2.2.2.2.2.2.1.2.1) q464 (fun _ h => h) es7 dX6_init_14 ?_
  obtain ⟨g8, h⟩ := gd_e h
  obtain ⟨g9, h⟩ := gd_e h
  obtain ⟨g10, h⟩ := gd_e h
  obtain ⟨s11, es11, h⟩ := bnd_e h
  refine gx_putF (t := 7) (k := 0) (x := (s5 (-1) 0)) (ty := (.array (.array .boolean))) 18 rfl cw7 (by decide) g8 g9.1 g9.2 q429 same_f rfl rfl (by decide +kernel) (refOk rfl _).1 (refOk rfl _).2 ((congrArg (rf x0) (ux_s _ _ _ _)).trans (rf_ne g10)) es11 dX6_init_18 ?_
  refine gx_aload_n 21 0 dX6_init_21 rfl ?_
  refine gx_bipush 22 dX6_init_22 (by decide) ?_
  refine gx_bipush 24 dX6_init_24 (by decide) ?_
  obtain ⟨g12, h⟩ := gd_e h
  obtain ⟨s13, es13, h⟩ := bnd_e h
  refine gx_multi (t := 113) (ti := 104) (ty := .long) 26 g12 (by decide) (by decide) (by decide) (by decide) (by decide) (by decide) (fun _ _ _ => rfl) (fun _ _ => rfl) (by decide +kernel) (by decide) rfl rfl q427 (fun _ h => h.2.2.2.2.2.2.2.2.2.2.1.2.2) q390 (fun _ h => h) es13 dX6_init_26 ?_
  obtain ⟨g14, h⟩ := gd_e h
  obtain ⟨g15, h⟩ := gd_e h
  obtain ⟨g16, h⟩ := gd_e h
  obtain ⟨s17, es17, h⟩ := bnd_e h
  refine gx_putF (t := 7) (k := 1) (x := (s11 (-1) 0)) (ty := (.array (.array .long))) 30 rfl cw7 (by decide) g14 g15.1 g15.2 q430 same_f rfl rfl (by decide +kernel) (refOk rfl _).1 (refOk rfl _).2 ((congrArg (rf x0) (ux_s _ _ _ _)).trans (rf_ne g16)) es17 dX6_init_30 ?_
  refine gx_aload_n 33 0 dX6_init_33 rfl ?_
  refine gx_bipush 34 dX6_init_34 (by decide) ?_
  obtain ⟨g18, h⟩ := gd_e h
  obtain ⟨g19, h⟩ := gd_e h
  obtain ⟨s20, es20, h⟩ := bnd_e h
  refine gx_newarr (t := 101) (atype := .int) 36 g18 (by decide) (by decide) g19 q418 (by decide) (fun _ _ h => h) (fun _ _ => rfl) es20 dX6_init_36 ?_
  obtain ⟨g21, h⟩ := gd_e h
  obtain ⟨g22, h⟩ := gd_e h
  obtain ⟨g23, h⟩ := gd_e h
  obtain ⟨s24, es24, h⟩ := bnd_e h
  refine gx_putF (t := 7) (k := 2) (x := (s17 (-1) 0)) (ty := (.array .int)) 38 rfl cw7 (by decide) g21 g22.1 g22.2 q431 same_f rfl rfl (by decide +kernel) (refOk rfl _).1 (refOk rfl _).2 ((congrArg (rf x0) (ux_s _ _ _ _)).trans (rf_ne g23)) es24 dX6_init_38 ?_
  refine gx_aload_n 41 0 dX6_init_41 rfl ?_
  refine gx_bipush 42 dX6_init_42 (by decide) ?_
  obtain ⟨g25, h⟩ := gd_e h
  obtain ⟨g26, h⟩ := gd_e h
  obtain ⟨s27, es27, h⟩ := bnd_e h
  refine gx_newarr (t := 101) (atype := .int) 44 g25 (by decide) (by decide) g26 q418 (by decide) (fun _ _ h => h) (fun _ _ => rfl) es27 dX6_init_44 ?_
  obtain ⟨g28, h⟩ := gd_e h
  obtain ⟨g29, h⟩ := gd_e h
  obtain ⟨g30, h⟩ := gd_e h
  obtain ⟨s31, es31, h⟩ := bnd_e h
  refine gx_putF (t := 7) (k := 3) (x := (s24 (-1) 0)) (ty := (.array .int)) 46 rfl cw7 (by decide) g28 g29.1 g29.2 q434 same_f rfl rfl (by decide +kernel) (refOk rfl _).1 (refOk rfl _).2 ((congrArg (rf x0) (ux_s _ _ _ _)).trans (rf_ne g30)) es31 dX6_init_46 ?_
  exact gx_vret 49 dX6_init_49 (rt h)
/-! VerbAtDusk$State.init -/
noncomputable def x7_init (a0 : Int) (a1 : Int) (s0 : XS) : Option (Int × XS) :=
  gd (tg false s0 a0 = 8) <|
  gd (0 ≤ a0 ∧ ¬ (1438 ≤ a0 ∧ a0 < 1514)) <|
  gd (¬ a1 = -1) <|
  bnd (ux s0 a0 9 a1) fun s5 =>
  gd (0 ≤ s5 (-1) 0 ∧ 0 ≤ s5 (-1) 1) <|
  gd (0 ≤ i32 6 ∧ i32 6 < 1000000) <|
  bnd (nwx s5 101 (i32 6) (i32 6) (fun _ => 0)) fun s8 =>
  gd (tg false s8 a0 = 8) <|
  gd (0 ≤ a0 ∧ ¬ (1438 ≤ a0 ∧ a0 < 1514)) <|
  gd (¬ (s5 (-1) 0) = -1) <|
  bnd (ux s8 a0 3 (s5 (-1) 0)) fun s12 =>
  gd (0 ≤ s12 (-1) 0 ∧ 0 ≤ s12 (-1) 1) <|
  gd (0 ≤ i32 6 ∧ i32 6 < 1000000) <|
  bnd (nwx s12 101 (i32 6) (i32 6) (fun _ => 0)) fun s15 =>
  gd (tg false s15 a0 = 8) <|
  gd (0 ≤ a0 ∧ ¬ (1438 ≤ a0 ∧ a0 < 1514)) <|
  gd (¬ (s12 (-1) 0) = -1) <|
  bnd (ux s15 a0 4 (s12 (-1) 0)) fun s19 =>
  gd (0 ≤ s19 (-1) 0 ∧ 0 ≤ s19 (-1) 1) <|
  gd (0 ≤ i32 6 ∧ i32 6 < 1000000) <|
  bnd (nwx s19 101 (i32 6) (i32 6) (fun _ => 0)) fun s22 =>
  gd (tg false s22 a0 = 8) <|
  gd (0 ≤ a0 ∧ ¬ (1438 ≤ a0 ∧ a0 < 1514)) <|
  gd (¬ (s19 (-1) 0) = -1) <|
  bnd (ux s22 a0 5 (s19 (-1) 0)) fun s26 =>
  gd (0 ≤ s26 (-1) 0 ∧ 0 ≤ s26 (-1) 1) <|
  gd (0 ≤ i32 6 ∧ i32 6 < 1000000) <|
  bnd (nwx s26 101 (i32 6) (i32 6) (fun _ => 0)) fun s29 =>
  gd (tg false s29 a0 = 8) <|
  gd (0 ≤ a0 ∧ ¬ (1438 ≤ a0 ∧ a0 < 1514)) <|
  gd (¬ (s26 (-1) 0) = -1) <|
  bnd (ux s29 a0 6 (s26 (-1) 0)) fun s33 =>
  gd (0 ≤ s33 (-1) 0 ∧ 0 ≤ s33 (-1) 1) <|
  bnd (mnx s33 121 101 (i32 6) (i32 7)) fun s35 =>
  gd (tg false s35 a0 = 8) <|
  gd (0 ≤ a0 ∧ ¬ (1438 ≤ a0 ∧ a0 < 1514)) <|
  gd (¬ (s33 (-1) 0) = -1) <|
  bnd (ux s35 a0 7 (s33 (-1) 0)) fun s39 =>
  gd (0 ≤ s39 (-1) 0 ∧ 0 ≤ s39 (-1) 1) <|
  bnd (mnx s39 111 101 (i32 50) (i32 3)) fun s41 =>
  gd (tg false s41 a0 = 8) <|
  gd (0 ≤ a0 ∧ ¬ (1438 ≤ a0 ∧ a0 < 1514)) <|
  gd (¬ (s39 (-1) 0) = -1) <|
  bnd (ux s41 a0 8 (s39 (-1) 0)) fun s45 =>
  some (0, s45)
theorem mx7_init {x0 : Nat} {D : XD} {a0 : Int} {a1 : Int} {s0 : XS} {res : Int × XS} (h : x7_init a0 a1 s0 = some res) (l : Launch) : XMet0 l yX7_init cX7_init 2 none 2 false x0 D [.ref (ad x0 a0), .ref (ad x0 a1)] s0 0 res := by
  refine XMet0.ofn [(0, .ref (ad x0 a0)), (1, .ref (ad x0 a1))] "VerbAtDusk$State" "<init>" rfl rfl (plainFor_of_name (by decide)) (Nat.le_of_ble_eq_true rfl) rfl ?_
  unfold x7_init at h
  generalize nC s0 = cN
  generalize nS s0 = sN
  refine gx_aload_n 0 0 dX7_init_0 rfl ?_
  refine gx_aload_n 1 1 dX7_init_1 rfl ?_
  obtain ⟨g2, h⟩ := gd_e h
  obtain ⟨g3, h⟩ := gd_e h
  obtain ⟨g4, h⟩ := gd_e h
  obtain ⟨s5, es5, h⟩ := bnd_e h
  refine gx_putF (t := 8) (k := 9) (x := a1) (ty := (.object "VerbAtDusk")) 2 rfl cw8 (by decide) g2 g3.1 g3.2 q493 same_f rfl rfl (by decide +kernel) (refOk rfl _).1 (refOk rfl _).2 ((congrArg (rf x0) (ux_s _ _ _ _)).trans (rf_ne g4)) es5 dX7_init_2 ?_
  refine gx_aload_n 5 0 dX7_init_5 rfl ?_
  refine gx_objInit 6 q470 q195 q196 dX7_init_6 (by decide) (Nat.le_of_ble_eq_true rfl) ?_
  refine gx_aload_n 9 0 dX7_init_9 rfl ?_
  refine gx_bipush 10 dX7_init_10 (by decide) ?_
  obtain ⟨g6, h⟩ := gd_e h
  obtain ⟨g7, h⟩ := gd_e h
  obtain ⟨s8, es8, h⟩ := bnd_e h
  refine gx_newarr (t := 101) (atype := .int) 12 g6 (by decide) (by decide) g7 q418 (by decide) (fun _ _ h => h) (fun _ _ => rfl) es8 dX7_init_12 ?_
  obtain ⟨g9, h⟩ := gd_e h
  obtain ⟨g10, h⟩ := gd_e h
  obtain ⟨g11, h⟩ := gd_e h
  obtain ⟨s12, es12, h⟩ := bnd_e h
  refine gx_putF (t := 8) (k := 3) (x := (s5 (-1) 0)) (ty := (.array .int)) 14 rfl cw8 (by decide) g9 g10.1 g10.2 q479 same_f rfl rfl (by decide +kernel) (refOk rfl _).1 (refOk rfl _).2 ((congrArg (rf x0) (ux_s _ _ _ _)).trans (rf_ne g11)) es12 dX7_init_14 ?_
  refine gx_aload_n 17 0 dX7_init_17 rfl ?_
  refine gx_bipush 18 dX7_init_18 (by decide) ?_
  obtain ⟨g13, h⟩ := gd_e h
  obtain ⟨g14, h⟩ := gd_e h
  obtain ⟨s15, es15, h⟩ := bnd_e h
  refine gx_newarr (t := 101) (atype := .int) 20 g13 (by decide) (by decide) g14 q418 (by decide) (fun _ _ h => h) (fun _ _ => rfl) es15 dX7_init_20 ?_
  obtain ⟨g16, h⟩ := gd_e h
  obtain ⟨g17, h⟩ := gd_e h
  obtain ⟨g18, h⟩ := gd_e h
  obtain ⟨s19, es19, h⟩ := bnd_e h
  refine gx_putF (t := 8) (k := 4) (x := (s12 (-1) 0)) (ty := (.array .int)) 22 rfl cw8 (by decide) g16 g17.1 g17.2 q482 same_f rfl rfl (by decide +kernel) (refOk rfl _).1 (refOk rfl _).2 ((congrArg (rf x0) (ux_s _ _ _ _)).trans (rf_ne g18)) es19 dX7_init_22 ?_
  refine gx_aload_n 25 0 dX7_init_25 rfl ?_
  refine gx_bipush 26 dX7_init_26 (by decide) ?_
  obtain ⟨g20, h⟩ := gd_e h
  obtain ⟨g21, h⟩ := gd_e h
  obtain ⟨s22, es22, h⟩ := bnd_e h
  refine gx_newarr (t := 101) (atype := .int) 28 g20 (by decide) (by decide) g21 q418 (by decide) (fun _ _ h => h) (fun _ _ => rfl) es22 dX7_init_28 ?_
  obtain ⟨g23, h⟩ := gd_e h
  obtain ⟨g24, h⟩ := gd_e h
  obtain ⟨g25, h⟩ := gd_e h
  obtain ⟨s26, es26, h⟩ := bnd_e h
  refine gx_putF (t := 8) (k := 5) (x := (s19 (-1) 0)) (ty := (.array .int)) 30 rfl cw8 (by decide) g23 g24.1 g24.2 q485 same_f rfl rfl (by decide +kernel) (refOk rfl _).1 (refOk rfl _).2 ((congrArg (rf x0) (ux_s _ _ _ _)).trans (rf_ne g25)) es26 dX7_init_30 ?_
  refine gx_aload_n 33 0 dX7_init_33 rfl ?_
  refine gx_bipush 34 dX7_init_34 (by decide) ?_
  obtain ⟨g27, h⟩ := gd_e h
  obtain ⟨g28, h⟩ := gd_e h
  obtain ⟨s29, es29, h⟩ := bnd_e h
  refine gx_newarr (t := 101) (atype := .int) 36 g27 (by decide) (by decide) g28 q418 (by decide) (fun _ _ h => h) (fun _ _ => rfl) es29 dX7_init_36 ?_
  obtain ⟨g30, h⟩ := gd_e h
  obtain ⟨g31, h⟩ := gd_e h
  obtain ⟨g32, h⟩ := gd_e h
  obtain ⟨s33, es33, h⟩ := bnd_e h
  refine gx_putF (t := 8) (k := 6) (x := (s26 (-1) 0)) (ty := (.array .int)) 38 rfl cw8 (by decide) g30 g31.1 g31.2 q487 same_f rfl rfl (by decide +kernel) (refOk rfl _).1 (refOk rfl _).2 ((congrArg (rf x0) (ux_s _ _ _ _)).trans (rf_ne g32)) es33 dX7_init_38 ?_
  refine gx_aload_n 41 0 dX7_init_41 rfl ?_
  refine gx_bipush 42 dX7_init_42 (by decide) ?_
  refine gx_bipush 44 dX7_init_44 (by decide) ?_
  obtain ⟨g34, h⟩ := gd_e h
  obtain ⟨s35, es35, h⟩ := bnd_e h
  refine gx_multi (t := 121) (ti := 101) (ty := .int) 46 g34 (by decide) (by decide) (by decide) (by decide) (by decide) (by decide) (fun _ _ _ => rfl) (fun _ _ => rfl) (by decide +kernel) (by decide) rfl rfl q471 (fun _ h => h.2.2.2.2.2.2.2.2.2.2.1.1) q418 (fun _ h => h) es35 dX7_init_46 ?_
  obtain ⟨g36, h⟩ := gd_e h
  obtain ⟨g37, h⟩ := gd_e h
  obtain ⟨g38, h⟩ := gd_e h
  obtain ⟨s39, es39, h⟩ := bnd_e h
  refine gx_putF (t := 8) (k := 7) (x := (s33 (-1) 0)) (ty := (.array (.array .int))) 50 rfl cw8 (by decide) g36 g37.1 g37.2 q489 same_f rfl rfl (by decide +kernel) (refOk rfl _).1 (refOk rfl _).2 ((congrArg (rf x0) (ux_s _ _ _ _)).trans (rf_ne g38)) es39 dX7_init_50 ?_
  refine gx_aload_n 53 0 dX7_init_53 rfl ?_
  refine gx_bipush 54 dX7_init_54 (by decide) ?_
  refine gx_iconst 56 dX7_init_56 ?_
  obtain ⟨g40, h⟩ := gd_e h
  obtain ⟨s41, es41, h⟩ := bnd_e h
  refine gx_multi (t := 111) (ti := 101) (ty := .int) 57 g40 (by decide) (by decide) (by decide) (by decide) (by decide) (by decide) (fun _ _ _ => rfl) (fun _ _ => rfl) (by decide +kernel) (by decide) rfl rfl q471 (fun _ h => h.2.2.2.2.2.2.2.2.2.2.1.1) q418 (fun _ h => h) es41 dX7_init_57 ?_
  obtain ⟨g42, h⟩ := gd_e h
  obtain ⟨g43, h⟩ := gd_e h
  obtain ⟨g44, h⟩ := gd_e h
  obtain ⟨s45, es45, h⟩ := bnd_e h
  refine gx_putF (t := 8) (k := 8) (x := (s39 (-1) 0)) (ty := (.array (.array .int))) 61 rfl cw8 (by decide) g42 g43.1 g43.2 q491 same_f rfl rfl (by decide +kernel) (refOk rfl _).1 (refOk rfl _).2 ((congrArg (rf x0) (ux_s _ _ _ _)).trans (rf_ne g44)) es45 dX7_init_61 ?_
  exact gx_vret 64 dX7_init_64 (rt h)
/-! VerbAtDusk.init -/
noncomputable def x0_init_L166 (a0 : Int) (k192 : XS → Option (Int × XS)) : Nat → Int → XS → Option (Int × XS)
  | 0, _, _ => none
  | n + 1, x1_109, s110 =>
    if i32 20 ≤ i32 x1_109 then
      k192 s110
    else
      gd (tg false s110 a0 = 1) <|
      gd (¬ (s110 a0 18) = -1) <|
      gd (0 ≤ s110 (-1) 0 ∧ 0 ≤ s110 (-1) 1) <|
      bnd (nwx s110 8 0 10 (dfl 8)) fun s116 =>
      Option.bind (x7_init (s110 (-1) 0) a0 s116) fun z117 =>
      gd (tg false z117.2 (s110 a0 18) = 114) <|
      gd (0 ≤ (s110 a0 18) ∧ ¬ (1438 ≤ (s110 a0 18) ∧ (s110 a0 18) < 1514)) <|
      gd (ok (ln false z117.2 (s110 a0 18)) x1_109) <|
      gd (tg false z117.2 (s110 (-1) 0) = 8) <|
      gd (¬ (s110 (-1) 0) = -1) <|
      bnd (ux z117.2 (s110 a0 18) (i32 x1_109) (s110 (-1) 0)) fun s123 =>
      bnd (x1_109 + 1) fun x1_124 =>
      x0_init_L166 a0 k192 n x1_124 s123
noncomputable def x0_init (a0 : Int) (s0 : XS) : Option (Int × XS) :=
  gd (0 ≤ s0 (-1) 0 ∧ 0 ≤ s0 (-1) 1) <|
  bnd (nwx s0 2 0 9 (dfl 2)) fun s2 =>
  Option.bind (x1_init false (s0 (-1) 0) s2) fun z3 =>
  gd (tg false z3.2 a0 = 1) <|
  gd (0 ≤ a0 ∧ ¬ (1438 ≤ a0 ∧ a0 < 1514)) <|
  gd (¬ (s0 (-1) 0) = -1) <|
  bnd (ux z3.2 a0 0 (s0 (-1) 0)) fun s7 =>
  gd (0 ≤ s7 (-1) 0 ∧ 0 ≤ s7 (-1) 1) <|
  gd (0 ≤ i32 1600 ∧ i32 1600 < 1000000) <|
  bnd (nwx s7 102 (i32 1600) (i32 1600) (fun _ => 0)) fun s10 =>
  gd (tg false s10 a0 = 1) <|
  gd (0 ≤ a0 ∧ ¬ (1438 ≤ a0 ∧ a0 < 1514)) <|
  gd (¬ (s7 (-1) 0) = -1) <|
  bnd (ux s10 a0 1 (s7 (-1) 0)) fun s14 =>
  gd (tg false s14 a0 = 1) <|
  gd (0 ≤ a0 ∧ ¬ (1438 ≤ a0 ∧ a0 < 1514)) <|
  bnd (ux s14 a0 4 (-1)) fun s17 =>
  gd (0 ≤ s17 (-1) 0 ∧ 0 ≤ s17 (-1) 1) <|
  bnd (nwx s17 3 0 8 (dfl 3)) fun s19 =>
  Option.bind (x2_init (s17 (-1) 0) a0 s19) fun z20 =>
  gd (tg false z20.2 a0 = 1) <|
  gd (0 ≤ a0 ∧ ¬ (1438 ≤ a0 ∧ a0 < 1514)) <|
  gd (¬ (s17 (-1) 0) = -1) <|
  bnd (ux z20.2 a0 5 (s17 (-1) 0)) fun s24 =>
  gd (0 ≤ s24 (-1) 0 ∧ 0 ≤ s24 (-1) 1) <|
  bnd (nwx s24 5 0 1 (dfl 5)) fun s26 =>
  Option.bind (x4_init (s24 (-1) 0) s26) fun z27 =>
  gd (tg false z27.2 a0 = 1) <|
  gd (0 ≤ a0 ∧ ¬ (1438 ≤ a0 ∧ a0 < 1514)) <|
  gd (¬ (s24 (-1) 0) = -1) <|
  bnd (ux z27.2 a0 6 (s24 (-1) 0)) fun s31 =>
  gd (0 ≤ s31 (-1) 0 ∧ 0 ≤ s31 (-1) 1) <|
  bnd (nwx s31 5 0 1 (dfl 5)) fun s33 =>
  Option.bind (x4_init (s31 (-1) 0) s33) fun z34 =>
  gd (tg false z34.2 a0 = 1) <|
  gd (0 ≤ a0 ∧ ¬ (1438 ≤ a0 ∧ a0 < 1514)) <|
  gd (¬ (s31 (-1) 0) = -1) <|
  bnd (ux z34.2 a0 7 (s31 (-1) 0)) fun s38 =>
  gd (0 ≤ s38 (-1) 0 ∧ 0 ≤ s38 (-1) 1) <|
  gd (0 ≤ i32 6 ∧ i32 6 < 1000000) <|
  bnd (nwx s38 101 (i32 6) (i32 6) (fun _ => 0)) fun s41 =>
  gd (tg false s41 a0 = 1) <|
  gd (0 ≤ a0 ∧ ¬ (1438 ≤ a0 ∧ a0 < 1514)) <|
  gd (¬ (s38 (-1) 0) = -1) <|
  bnd (ux s41 a0 8 (s38 (-1) 0)) fun s45 =>
  gd (0 ≤ s45 (-1) 0 ∧ 0 ≤ s45 (-1) 1) <|
  bnd (nwx s45 6 0 6 (dfl 6)) fun s47 =>
  Option.bind (x5_init (s45 (-1) 0) a0 s47) fun z48 =>
  gd (tg false z48.2 a0 = 1) <|
  gd (0 ≤ a0 ∧ ¬ (1438 ≤ a0 ∧ a0 < 1514)) <|
  gd (¬ (s45 (-1) 0) = -1) <|
  bnd (ux z48.2 a0 9 (s45 (-1) 0)) fun s52 =>
  gd (0 ≤ s52 (-1) 0 ∧ 0 ≤ s52 (-1) 1) <|
  bnd (nwx s52 7 0 9 (dfl 7)) fun s54 =>
  Option.bind (x6_init (s52 (-1) 0) a0 s54) fun z55 =>
  gd (tg false z55.2 a0 = 1) <|
  gd (0 ≤ a0 ∧ ¬ (1438 ≤ a0 ∧ a0 < 1514)) <|
  gd (¬ (s52 (-1) 0) = -1) <|
  bnd (ux z55.2 a0 10 (s52 (-1) 0)) fun s59 =>
  gd (0 ≤ s59 (-1) 0 ∧ 0 ≤ s59 (-1) 1) <|
  bnd (nwx s59 8 0 10 (dfl 8)) fun s61 =>
  Option.bind (x7_init (s59 (-1) 0) a0 s61) fun z62 =>
  gd (tg false z62.2 a0 = 1) <|
  gd (0 ≤ a0 ∧ ¬ (1438 ≤ a0 ∧ a0 < 1514)) <|
  gd (¬ (s59 (-1) 0) = -1) <|
  bnd (ux z62.2 a0 11 (s59 (-1) 0)) fun s66 =>
  gd (0 ≤ s66 (-1) 0 ∧ 0 ≤ s66 (-1) 1) <|
  bnd (nwx s66 8 0 10 (dfl 8)) fun s68 =>
  Option.bind (x7_init (s66 (-1) 0) a0 s68) fun z69 =>
  gd (tg false z69.2 a0 = 1) <|
  gd (0 ≤ a0 ∧ ¬ (1438 ≤ a0 ∧ a0 < 1514)) <|
  gd (¬ (s66 (-1) 0) = -1) <|
  bnd (ux z69.2 a0 12 (s66 (-1) 0)) fun s73 =>
  gd (0 ≤ s73 (-1) 0 ∧ 0 ≤ s73 (-1) 1) <|
  gd (0 ≤ i32 16 ∧ i32 16 < 1000000) <|
  bnd (nwx s73 101 (i32 16) (i32 16) (fun _ => 0)) fun s76 =>
  gd (tg false s76 a0 = 1) <|
  gd (0 ≤ a0 ∧ ¬ (1438 ≤ a0 ∧ a0 < 1514)) <|
  gd (¬ (s73 (-1) 0) = -1) <|
  bnd (ux s76 a0 13 (s73 (-1) 0)) fun s80 =>
  gd (0 ≤ s80 (-1) 0 ∧ 0 ≤ s80 (-1) 1) <|
  gd (0 ≤ i32 16 ∧ i32 16 < 1000000) <|
  bnd (nwx s80 101 (i32 16) (i32 16) (fun _ => 0)) fun s83 =>
  gd (tg false s83 a0 = 1) <|
  gd (0 ≤ a0 ∧ ¬ (1438 ≤ a0 ∧ a0 < 1514)) <|
  gd (¬ (s80 (-1) 0) = -1) <|
  bnd (ux s83 a0 14 (s80 (-1) 0)) fun s87 =>
  gd (0 ≤ s87 (-1) 0 ∧ 0 ≤ s87 (-1) 1) <|
  gd (0 ≤ i32 16 ∧ i32 16 < 1000000) <|
  bnd (nwx s87 101 (i32 16) (i32 16) (fun _ => 0)) fun s90 =>
  gd (tg false s90 a0 = 1) <|
  gd (0 ≤ a0 ∧ ¬ (1438 ≤ a0 ∧ a0 < 1514)) <|
  gd (¬ (s87 (-1) 0) = -1) <|
  bnd (ux s90 a0 15 (s87 (-1) 0)) fun s94 =>
  gd (0 ≤ s94 (-1) 0 ∧ 0 ≤ s94 (-1) 1) <|
  bnd (mnx s94 121 101 (i32 10) (i32 21)) fun s96 =>
  gd (tg false s96 a0 = 1) <|
  gd (0 ≤ a0 ∧ ¬ (1438 ≤ a0 ∧ a0 < 1514)) <|
  gd (¬ (s94 (-1) 0) = -1) <|
  bnd (ux s96 a0 17 (s94 (-1) 0)) fun s100 =>
  gd (0 ≤ s100 (-1) 0 ∧ 0 ≤ s100 (-1) 1) <|
  gd (0 ≤ i32 20 ∧ i32 20 < 1000000) <|
  bnd (nwx s100 114 (i32 20) (i32 20) (fun _ => -1)) fun s103 =>
  gd (tg false s103 a0 = 1) <|
  gd (0 ≤ a0 ∧ ¬ (1438 ≤ a0 ∧ a0 < 1514)) <|
  gd (¬ (s100 (-1) 0) = -1) <|
  bnd (ux s103 a0 18 (s100 (-1) 0)) fun s107 =>
  bnd 0 fun x1_108 =>
  x0_init_L166 a0
    (fun (s125 : XS) =>
      gd (tg false s125 a0 = 1) <|
      gd (0 ≤ a0 ∧ ¬ (1438 ≤ a0 ∧ a0 < 1514)) <|
      bnd (ux s125 a0 20 1) fun s128 =>
      gd (0 ≤ s128 (-1) 0 ∧ 0 ≤ s128 (-1) 1) <|
      gd (0 ≤ i32 70 ∧ i32 70 < 1000000) <|
      bnd (nwx s128 102 (i32 70) (i32 70) (fun _ => 0)) fun s131 =>
      gd (tg false s131 a0 = 1) <|
      gd (0 ≤ a0 ∧ ¬ (1438 ≤ a0 ∧ a0 < 1514)) <|
      gd (¬ (s128 (-1) 0) = -1) <|
      bnd (ux s131 a0 22 (s128 (-1) 0)) fun s135 =>
      some (0, s135))
    FU x1_108 s107
theorem wx0_init_L166 {l : Launch} {x0 : Nat} {D : XD} {cN sN : Nat} {res : Int × XS} {a0 : Int} {k192 : XS → Option (Int × XS)} (hk192 : ∀ (s111 : XS), k192 s111 = some res → GX l cX0_init "VerbAtDusk" 2 none "<init>" [] x0 D false 0 7 cN sN (0, res) s111 192 [(0, .ref (ad x0 a0))] []) : ∀ (n : Nat) (x1_109 : Int) (s110 : XS), x0_init_L166 a0 k192 n x1_109 s110 = some res → GX l cX0_init "VerbAtDusk" 2 none "<init>" [] x0 D false 0 7 cN sN (0, res) s110 166 [(0, .ref (ad x0 a0)), (1, J x1_109)] [] := by
  intro n
  induction n with
  | zero =>
    intro x1_109 s110 h
    cases h
  | succ n ih =>
    intro x1_109 s110 h
    rw [x0_init_L166] at h
    refine gx_iload_n 166 1 dX0_init_166 rfl ?_
    refine gx_bipush 167 dX0_init_167 (by decide) ?_
    refine gx_icmp_ge 169 192 dX0_init_169 (by decide) (fun c112 => ?_) (fun c112 => ?_)
    · replace h := if_t h c112
      refine gx_sub [0] rfl ?_
      exact hk192 _ h
    · replace h := if_f h c112
      refine gx_aload_n 172 0 dX0_init_172 rfl ?_
      obtain ⟨g113, h⟩ := gd_e h
      obtain ⟨g114, h⟩ := gd_e h
      refine gx_get (t := 1) (k := 18) (v := .ref (ad x0 (s110 a0 18))) 173 cw1 (by decide) g113 q541 same_f (rf_ne g114) dX0_init_173 ?_
      refine gx_iload_n 176 1 dX0_init_176 rfl ?_
      obtain ⟨g115, h⟩ := gd_e h
      obtain ⟨s116, es116, h⟩ := bnd_e h
      refine gx_new (t := 8) 177 g115 cw8 tyX7 tyX7_ok (df_8 x0 _) q465 q466 q160 es116 dX0_init_177 ?_
      refine gx_dup 180 dX0_init_180 rfl ?_
      refine gx_aload_n 181 0 dX0_init_181 rfl ?_
      obtain ⟨z117, ez117, h⟩ := opt_e h
      refine gx_callIN (As := [.ref (ad x0 a0)]) (rest := [.ref (ad x0 (s110 (-1) 0)), J x1_109, .ref (ad x0 (s110 a0 18))]) 182 1 (mx7_init ez117 l) q469 q160 q467 q468 rfl (by decide +kernel) (by decide) rfl rfl (Nat.le_of_ble_eq_true rfl) dX0_init_182 ?_
      obtain ⟨g118, h⟩ := gd_e h
      obtain ⟨g119, h⟩ := gd_e h
      obtain ⟨g120, h⟩ := gd_e h
      obtain ⟨g121, h⟩ := gd_e h
      obtain ⟨g122, h⟩ := gd_e h
      obtain ⟨s123, es123, h⟩ := bnd_e h
      refine gx_aastS 185 g118 g119.1 g119.2 g120 g121 es123 dX0_init_185 g122 ?_
      obtain ⟨x1_124, ex1_124, h⟩ := bnd_e h
      refine gx_iinc 186 1 [(1, J x1_124), (0, .ref (ad x0 a0))] dX0_init_186 rfl ex1_124 (by decide) rfl ?_
      refine gx_goto 189 166 dX0_init_189 (by decide) ?_
      refine gx_sub [1, 0] rfl ?_
      exact ih _ _ h
theorem mx0_init {x0 : Nat} {D : XD} {a0 : Int} {s0 : XS} {res : Int × XS} (h : x0_init a0 s0 = some res) (l : Launch) : XMet0 l yX0_init cX0_init 2 none 7 false x0 D [.ref (ad x0 a0)] s0 0 res := by
  refine XMet0.ofn [(0, .ref (ad x0 a0))] "VerbAtDusk" "<init>" rfl rfl (plainFor_of_name (by decide)) (Nat.le_of_ble_eq_true rfl) rfl ?_
  unfold x0_init at h
  generalize nC s0 = cN
  generalize nS s0 = sN
  refine gx_aload_n 0 0 dX0_init_0 rfl ?_
  refine gx_objInit 1 q194 q195 q196 dX0_init_1 (by decide) (Nat.le_of_ble_eq_true rfl) ?_
  refine gx_aload_n 4 0 dX0_init_4 rfl ?_
  obtain ⟨g1, h⟩ := gd_e h
  obtain ⟨s2, es2, h⟩ := bnd_e h
  refine gx_new (t := 2) 5 g1 cw2 tyX1 tyX1_ok (df_2 false x0 _) q197 q198 q148 es2 dX0_init_5 ?_
  refine gx_dup 8 dX0_init_8 rfl ?_
  obtain ⟨z3, ez3, h⟩ := opt_e h
  refine gx_callIN (As := []) (rest := [.ref (ad x0 (s0 (-1) 0)), .ref (ad x0 a0)]) 9 0 (mx1_init ez3 l) q201 q148 q199 q200 rfl (by decide +kernel) (by decide) rfl rfl (Nat.le_of_ble_eq_true rfl) dX0_init_9 ?_
  obtain ⟨g4, h⟩ := gd_e h
  obtain ⟨g5, h⟩ := gd_e h
  obtain ⟨g6, h⟩ := gd_e h
  obtain ⟨s7, es7, h⟩ := bnd_e h
  refine gx_put (t := 1) (k := 0) (x := (s0 (-1) 0)) (ty := (.object "VerbAtDusk$Country")) 12 cw1 (by decide) g4 g5.1 g5.2 q519 same_f rfl (by decide +kernel) (refOk rfl _).1 (refOk rfl _).2 ((congrArg (rf x0) (ux_s _ _ _ _)).trans (rf_ne g6)) es7 dX0_init_12 ?_
  refine gx_aload_n 15 0 dX0_init_15 rfl ?_
  refine gx_sipush 16 dX0_init_16 (by decide) ?_
  obtain ⟨g8, h⟩ := gd_e h
  obtain ⟨g9, h⟩ := gd_e h
  obtain ⟨s10, es10, h⟩ := bnd_e h
  refine gx_newarr (t := 102) (atype := .byte) 19 g8 (by decide) (by decide) g9 q351 (by decide) (fun _ _ h => h) (fun _ _ => rfl) es10 dX0_init_19 ?_
  obtain ⟨g11, h⟩ := gd_e h
  obtain ⟨g12, h⟩ := gd_e h
  obtain ⟨g13, h⟩ := gd_e h
  obtain ⟨s14, es14, h⟩ := bnd_e h
  refine gx_putF (t := 1) (k := 1) (x := (s7 (-1) 0)) (ty := (.array .byte)) 21 rfl cw1 (by decide) g11 g12.1 g12.2 q521 same_f rfl rfl (by decide +kernel) (refOk rfl _).1 (refOk rfl _).2 ((congrArg (rf x0) (ux_s _ _ _ _)).trans (rf_ne g13)) es14 dX0_init_21 ?_
  refine gx_aload_n 24 0 dX0_init_24 rfl ?_
  refine gx_iconst 25 dX0_init_25 ?_
  obtain ⟨g15, h⟩ := gd_e h
  obtain ⟨g16, h⟩ := gd_e h
  obtain ⟨s17, es17, h⟩ := bnd_e h
  refine gx_put (t := 1) (k := 4) (x := (-1)) (ty := .int) 26 cw1 (by decide) g15 g16.1 g16.2 q524 same_f rfl (by decide +kernel) rfl rfl (congrArg J (ux_s _ _ _ _)) es17 dX0_init_26 ?_
  refine gx_aload_n 29 0 dX0_init_29 rfl ?_
  obtain ⟨g18, h⟩ := gd_e h
  obtain ⟨s19, es19, h⟩ := bnd_e h
  refine gx_new (t := 3) 30 g18 cw3 tyX2 tyX2_ok (df_3 x0 _) q273 q274 q152 es19 dX0_init_30 ?_
  refine gx_dup 33 dX0_init_33 rfl ?_
  refine gx_aload_n 34 0 dX0_init_34 rfl ?_
  obtain ⟨z20, ez20, h⟩ := opt_e h
  refine gx_callIN (As := [.ref (ad x0 a0)]) (rest := [.ref (ad x0 (s17 (-1) 0)), .ref (ad x0 a0)]) 35 1 (mx2_init ez20 l) q277 q152 q275 q276 rfl (by decide +kernel) (by decide) rfl rfl (Nat.le_of_ble_eq_true rfl) dX0_init_35 ?_
  obtain ⟨g21, h⟩ := gd_e h
  obtain ⟨g22, h⟩ := gd_e h
  obtain ⟨g23, h⟩ := gd_e h
  obtain ⟨s24, es24, h⟩ := bnd_e h
  refine gx_putF (t := 1) (k := 5) (x := (s17 (-1) 0)) (ty := (.object "VerbAtDusk$Reader")) 38 rfl cw1 (by decide) g21 g22.1 g22.2 q525 same_f rfl rfl (by decide +kernel) (refOk rfl _).1 (refOk rfl _).2 ((congrArg (rf x0) (ux_s _ _ _ _)).trans (rf_ne g23)) es24 dX0_init_38 ?_
  refine gx_aload_n 41 0 dX0_init_41 rfl ?_
  obtain ⟨g25, h⟩ := gd_e h
  obtain ⟨s26, es26, h⟩ := bnd_e h
  refine gx_new (t := 5) 42 g25 cw5 tyX4 tyX4_ok (df_5 x0 _) q377 q378 q157 es26 dX0_init_42 ?_
  refine gx_dup 45 dX0_init_45 rfl ?_
  obtain ⟨z27, ez27, h⟩ := opt_e h
  refine gx_callIN (As := []) (rest := [.ref (ad x0 (s24 (-1) 0)), .ref (ad x0 a0)]) 46 0 (mx4_init ez27 l) q381 q157 q379 q380 rfl (by decide +kernel) (by decide) rfl rfl (Nat.le_of_ble_eq_true rfl) dX0_init_46 ?_
  obtain ⟨g28, h⟩ := gd_e h
  obtain ⟨g29, h⟩ := gd_e h
  obtain ⟨g30, h⟩ := gd_e h
  obtain ⟨s31, es31, h⟩ := bnd_e h
  refine gx_putF (t := 1) (k := 6) (x := (s24 (-1) 0)) (ty := (.object "VerbAtDusk$Moment")) 49 rfl cw1 (by decide) g28 g29.1 g29.2 q527 same_f rfl rfl (by decide +kernel) (refOk rfl _).1 (refOk rfl _).2 ((congrArg (rf x0) (ux_s _ _ _ _)).trans (rf_ne g30)) es31 dX0_init_49 ?_
  refine gx_aload_n 52 0 dX0_init_52 rfl ?_
  obtain ⟨g32, h⟩ := gd_e h
  obtain ⟨s33, es33, h⟩ := bnd_e h
  refine gx_new (t := 5) 53 g32 cw5 tyX4 tyX4_ok (df_5 x0 _) q377 q378 q157 es33 dX0_init_53 ?_
  refine gx_dup 56 dX0_init_56 rfl ?_
  obtain ⟨z34, ez34, h⟩ := opt_e h
  refine gx_callIN (As := []) (rest := [.ref (ad x0 (s31 (-1) 0)), .ref (ad x0 a0)]) 57 0 (mx4_init ez34 l) q381 q157 q379 q380 rfl (by decide +kernel) (by decide) rfl rfl (Nat.le_of_ble_eq_true rfl) dX0_init_57 ?_
  obtain ⟨g35, h⟩ := gd_e h
  obtain ⟨g36, h⟩ := gd_e h
  obtain ⟨g37, h⟩ := gd_e h
  obtain ⟨s38, es38, h⟩ := bnd_e h
  refine gx_putF (t := 1) (k := 7) (x := (s31 (-1) 0)) (ty := (.object "VerbAtDusk$Moment")) 60 rfl cw1 (by decide) g35 g36.1 g36.2 q528 same_f rfl rfl (by decide +kernel) (refOk rfl _).1 (refOk rfl _).2 ((congrArg (rf x0) (ux_s _ _ _ _)).trans (rf_ne g37)) es38 dX0_init_60 ?_
  refine gx_aload_n 63 0 dX0_init_63 rfl ?_
  refine gx_bipush 64 dX0_init_64 (by decide) ?_
  obtain ⟨g39, h⟩ := gd_e h
  obtain ⟨g40, h⟩ := gd_e h
  obtain ⟨s41, es41, h⟩ := bnd_e h
  refine gx_newarr (t := 101) (atype := .int) 66 g39 (by decide) (by decide) g40 q418 (by decide) (fun _ _ h => h) (fun _ _ => rfl) es41 dX0_init_66 ?_
  obtain ⟨g42, h⟩ := gd_e h
  obtain ⟨g43, h⟩ := gd_e h
  obtain ⟨g44, h⟩ := gd_e h
  obtain ⟨s45, es45, h⟩ := bnd_e h
  refine gx_putF (t := 1) (k := 8) (x := (s38 (-1) 0)) (ty := (.array .int)) 68 rfl cw1 (by decide) g42 g43.1 g43.2 q529 same_f rfl rfl (by decide +kernel) (refOk rfl _).1 (refOk rfl _).2 ((congrArg (rf x0) (ux_s _ _ _ _)).trans (rf_ne g44)) es45 dX0_init_68 ?_
  refine gx_aload_n 71 0 dX0_init_71 rfl ?_
  obtain ⟨g46, h⟩ := gd_e h
  obtain ⟨s47, es47, h⟩ := bnd_e h
  refine gx_new (t := 6) 72 g46 cw6 tyX5 tyX5_ok (df_6 x0 _) q391 q392 q158 es47 dX0_init_72 ?_
  refine gx_dup 75 dX0_init_75 rfl ?_
  refine gx_aload_n 76 0 dX0_init_76 rfl ?_
  obtain ⟨z48, ez48, h⟩ := opt_e h
  refine gx_callIN (As := [.ref (ad x0 a0)]) (rest := [.ref (ad x0 (s45 (-1) 0)), .ref (ad x0 a0)]) 77 1 (mx5_init ez48 l) q395 q158 q393 q394 rfl (by decide +kernel) (by decide) rfl rfl (Nat.le_of_ble_eq_true rfl) dX0_init_77 ?_
  obtain ⟨g49, h⟩ := gd_e h
  obtain ⟨g50, h⟩ := gd_e h
  obtain ⟨g51, h⟩ := gd_e h
  obtain ⟨s52, es52, h⟩ := bnd_e h
  refine gx_putF (t := 1) (k := 9) (x := (s45 (-1) 0)) (ty := (.object "VerbAtDusk$Walk")) 80 rfl cw1 (by decide) g49 g50.1 g50.2 q530 same_f rfl rfl (by decide +kernel) (refOk rfl _).1 (refOk rfl _).2 ((congrArg (rf x0) (ux_s _ _ _ _)).trans (rf_ne g51)) es52 dX0_init_80 ?_
  refine gx_aload_n 83 0 dX0_init_83 rfl ?_
  obtain ⟨g53, h⟩ := gd_e h
  obtain ⟨s54, es54, h⟩ := bnd_e h
  refine gx_new (t := 7) 84 g53 cw7 tyX6 tyX6_ok (df_7 x0 _) q419 q420 q159 es54 dX0_init_84 ?_
  refine gx_dup 87 dX0_init_87 rfl ?_
  refine gx_aload_n 88 0 dX0_init_88 rfl ?_
  obtain ⟨z55, ez55, h⟩ := opt_e h
  refine gx_callIN (As := [.ref (ad x0 a0)]) (rest := [.ref (ad x0 (s52 (-1) 0)), .ref (ad x0 a0)]) 89 1 (mx6_init ez55 l) q423 q159 q421 q422 rfl (by decide +kernel) (by decide) rfl rfl (Nat.le_of_ble_eq_true rfl) dX0_init_89 ?_
  obtain ⟨g56, h⟩ := gd_e h
  obtain ⟨g57, h⟩ := gd_e h
  obtain ⟨g58, h⟩ := gd_e h
  obtain ⟨s59, es59, h⟩ := bnd_e h
  refine gx_putF (t := 1) (k := 10) (x := (s52 (-1) 0)) (ty := (.object "VerbAtDusk$Giving")) 92 rfl cw1 (by decide) g56 g57.1 g57.2 q532 same_f rfl rfl (by decide +kernel) (refOk rfl _).1 (refOk rfl _).2 ((congrArg (rf x0) (ux_s _ _ _ _)).trans (rf_ne g58)) es59 dX0_init_92 ?_
  refine gx_aload_n 95 0 dX0_init_95 rfl ?_
  obtain ⟨g60, h⟩ := gd_e h
  obtain ⟨s61, es61, h⟩ := bnd_e h
  refine gx_new (t := 8) 96 g60 cw8 tyX7 tyX7_ok (df_8 x0 _) q465 q466 q160 es61 dX0_init_96 ?_
  refine gx_dup 99 dX0_init_99 rfl ?_
  refine gx_aload_n 100 0 dX0_init_100 rfl ?_
  obtain ⟨z62, ez62, h⟩ := opt_e h
  refine gx_callIN (As := [.ref (ad x0 a0)]) (rest := [.ref (ad x0 (s59 (-1) 0)), .ref (ad x0 a0)]) 101 1 (mx7_init ez62 l) q469 q160 q467 q468 rfl (by decide +kernel) (by decide) rfl rfl (Nat.le_of_ble_eq_true rfl) dX0_init_101 ?_
  obtain ⟨g63, h⟩ := gd_e h
  obtain ⟨g64, h⟩ := gd_e h
  obtain ⟨g65, h⟩ := gd_e h
  obtain ⟨s66, es66, h⟩ := bnd_e h
  refine gx_putF (t := 1) (k := 11) (x := (s59 (-1) 0)) (ty := (.object "VerbAtDusk$State")) 104 rfl cw1 (by decide) g63 g64.1 g64.2 q534 same_f rfl rfl (by decide +kernel) (refOk rfl _).1 (refOk rfl _).2 ((congrArg (rf x0) (ux_s _ _ _ _)).trans (rf_ne g65)) es66 dX0_init_104 ?_
  refine gx_aload_n 107 0 dX0_init_107 rfl ?_
  obtain ⟨g67, h⟩ := gd_e h
  obtain ⟨s68, es68, h⟩ := bnd_e h
  refine gx_new (t := 8) 108 g67 cw8 tyX7 tyX7_ok (df_8 x0 _) q465 q466 q160 es68 dX0_init_108 ?_
  refine gx_dup 111 dX0_init_111 rfl ?_
  refine gx_aload_n 112 0 dX0_init_112 rfl ?_
  obtain ⟨z69, ez69, h⟩ := opt_e h
  refine gx_callIN (As := [.ref (ad x0 a0)]) (rest := [.ref (ad x0 (s66 (-1) 0)), .ref (ad x0 a0)]) 113 1 (mx7_init ez69 l) q469 q160 q467 q468 rfl (by decide +kernel) (by decide) rfl rfl (Nat.le_of_ble_eq_true rfl) dX0_init_113 ?_
  obtain ⟨g70, h⟩ := gd_e h
  obtain ⟨g71, h⟩ := gd_e h
  obtain ⟨g72, h⟩ := gd_e h
  obtain ⟨s73, es73, h⟩ := bnd_e h
  refine gx_putF (t := 1) (k := 12) (x := (s66 (-1) 0)) (ty := (.object "VerbAtDusk$State")) 116 rfl cw1 (by decide) g70 g71.1 g71.2 q535 same_f rfl rfl (by decide +kernel) (refOk rfl _).1 (refOk rfl _).2 ((congrArg (rf x0) (ux_s _ _ _ _)).trans (rf_ne g72)) es73 dX0_init_116 ?_
  refine gx_aload_n 119 0 dX0_init_119 rfl ?_
  refine gx_bipush 120 dX0_init_120 (by decide) ?_
  obtain ⟨g74, h⟩ := gd_e h
  obtain ⟨g75, h⟩ := gd_e h
  obtain ⟨s76, es76, h⟩ := bnd_e h
  refine gx_newarr (t := 101) (atype := .int) 122 g74 (by decide) (by decide) g75 q418 (by decide) (fun _ _ h => h) (fun _ _ => rfl) es76 dX0_init_122 ?_
  obtain ⟨g77, h⟩ := gd_e h
  obtain ⟨g78, h⟩ := gd_e h
  obtain ⟨g79, h⟩ := gd_e h
  obtain ⟨s80, es80, h⟩ := bnd_e h
  refine gx_putF (t := 1) (k := 13) (x := (s73 (-1) 0)) (ty := (.array .int)) 124 rfl cw1 (by decide) g77 g78.1 g78.2 q536 same_f rfl rfl (by decide +kernel) (refOk rfl _).1 (refOk rfl _).2 ((congrArg (rf x0) (ux_s _ _ _ _)).trans (rf_ne g79)) es80 dX0_init_124 ?_
  refine gx_aload_n 127 0 dX0_init_127 rfl ?_
  refine gx_bipush 128 dX0_init_128 (by decide) ?_
  obtain ⟨g81, h⟩ := gd_e h
  obtain ⟨g82, h⟩ := gd_e h
  obtain ⟨s83, es83, h⟩ := bnd_e h
  refine gx_newarr (t := 101) (atype := .int) 130 g81 (by decide) (by decide) g82 q418 (by decide) (fun _ _ h => h) (fun _ _ => rfl) es83 dX0_init_130 ?_
  obtain ⟨g84, h⟩ := gd_e h
  obtain ⟨g85, h⟩ := gd_e h
  obtain ⟨g86, h⟩ := gd_e h
  obtain ⟨s87, es87, h⟩ := bnd_e h
  refine gx_putF (t := 1) (k := 14) (x := (s80 (-1) 0)) (ty := (.array .int)) 132 rfl cw1 (by decide) g84 g85.1 g85.2 q537 same_f rfl rfl (by decide +kernel) (refOk rfl _).1 (refOk rfl _).2 ((congrArg (rf x0) (ux_s _ _ _ _)).trans (rf_ne g86)) es87 dX0_init_132 ?_
  refine gx_aload_n 135 0 dX0_init_135 rfl ?_
  refine gx_bipush 136 dX0_init_136 (by decide) ?_
  obtain ⟨g88, h⟩ := gd_e h
  obtain ⟨g89, h⟩ := gd_e h
  obtain ⟨s90, es90, h⟩ := bnd_e h
  refine gx_newarr (t := 101) (atype := .int) 138 g88 (by decide) (by decide) g89 q418 (by decide) (fun _ _ h => h) (fun _ _ => rfl) es90 dX0_init_138 ?_
  obtain ⟨g91, h⟩ := gd_e h
  obtain ⟨g92, h⟩ := gd_e h
  obtain ⟨g93, h⟩ := gd_e h
  obtain ⟨s94, es94, h⟩ := bnd_e h
  refine gx_putF (t := 1) (k := 15) (x := (s87 (-1) 0)) (ty := (.array .int)) 140 rfl cw1 (by decide) g91 g92.1 g92.2 q538 same_f rfl rfl (by decide +kernel) (refOk rfl _).1 (refOk rfl _).2 ((congrArg (rf x0) (ux_s _ _ _ _)).trans (rf_ne g93)) es94 dX0_init_140 ?_
  refine gx_aload_n 143 0 dX0_init_143 rfl ?_
  refine gx_bipush 144 dX0_init_144 (by decide) ?_
  refine gx_bipush 146 dX0_init_146 (by decide) ?_
  obtain ⟨g95, h⟩ := gd_e h
  obtain ⟨s96, es96, h⟩ := bnd_e h
  refine gx_multi (t := 121) (ti := 101) (ty := .int) 148 g95 (by decide) (by decide) (by decide) (by decide) (by decide) (by decide) (fun _ _ _ => rfl) (fun _ _ => rfl) (by decide +kernel) (by decide) rfl rfl q515 (fun _ h => h.2.2.2.2.2.2.2.2.2.2.1.1) q418 (fun _ h => h) es96 dX0_init_148 ?_
  obtain ⟨g97, h⟩ := gd_e h
  obtain ⟨g98, h⟩ := gd_e h
  obtain ⟨g99, h⟩ := gd_e h
  obtain ⟨s100, es100, h⟩ := bnd_e h
  refine gx_putF (t := 1) (k := 17) (x := (s94 (-1) 0)) (ty := (.array (.array .int))) 152 rfl cw1 (by decide) g97 g98.1 g98.2 q540 same_f rfl rfl (by decide +kernel) (refOk rfl _).1 (refOk rfl _).2 ((congrArg (rf x0) (ux_s _ _ _ _)).trans (rf_ne g99)) es100 dX0_init_152 ?_
  refine gx_aload_n 155 0 dX0_init_155 rfl ?_
  refine gx_bipush 156 dX0_init_156 (by decide) ?_
  obtain ⟨g101, h⟩ := gd_e h
  obtain ⟨g102, h⟩ := gd_e h
  obtain ⟨s103, es103, h⟩ := bnd_e h
  refine gx_anew (t := 114) (C := "VerbAtDusk$State") 158 g101 (by decide) (by decide) (fun _ _ => rfl) g102 q465 (fun _ h => h.2.2.2.2.2.2.2.1) es103 dX0_init_158 ?_
  obtain ⟨g104, h⟩ := gd_e h
  obtain ⟨g105, h⟩ := gd_e h
  obtain ⟨g106, h⟩ := gd_e h
  obtain ⟨s107, es107, h⟩ := bnd_e h
  refine gx_putF (t := 1) (k := 18) (x := (s100 (-1) 0)) (ty := (.array (.object "VerbAtDusk$State"))) 161 rfl cw1 (by decide) g104 g105.1 g105.2 q541 same_f rfl rfl (by decide +kernel) (refOk rfl _).1 (refOk rfl _).2 ((congrArg (rf x0) (ux_s _ _ _ _)).trans (rf_ne g106)) es107 dX0_init_161 ?_
  refine gx_iconst 164 dX0_init_164 ?_
  obtain ⟨x1_108, ex1_108, h⟩ := bnd_e h
  refine gx_istore_n 165 [(1, J x1_108), (0, .ref (ad x0 a0))] dX0_init_165 (by decide) ex1_108 rfl ?_
  refine gx_sub [1, 0] rfl ?_
  refine wx0_init_L166 (fun s125 h => ?_) FU _ _ h
  · refine gx_aload_n 192 0 dX0_init_192 rfl ?_
    refine gx_lconst (v := 1) 193 dX0_init_193 (by decide) ?_
    obtain ⟨g126, h⟩ := gd_e h
    obtain ⟨g127, h⟩ := gd_e h
    obtain ⟨s128, es128, h⟩ := bnd_e h
    refine gx_put (t := 1) (k := 20) (x := 1) (ty := .long) 194 cw1 (by decide) g126 g127.1 g127.2 q543 same_f rfl (by decide +kernel) rfl rfl (congrArg Lg (ux_s _ _ _ _)) es128 dX0_init_194 ?_
    refine gx_aload_n 197 0 dX0_init_197 rfl ?_
    refine gx_bipush 198 dX0_init_198 (by decide) ?_
    obtain ⟨g129, h⟩ := gd_e h
    obtain ⟨g130, h⟩ := gd_e h
    obtain ⟨s131, es131, h⟩ := bnd_e h
    refine gx_newarr (t := 102) (atype := .byte) 200 g129 (by decide) (by decide) g130 q351 (by decide) (fun _ _ h => h) (fun _ _ => rfl) es131 dX0_init_200 ?_
    obtain ⟨g132, h⟩ := gd_e h
    obtain ⟨g133, h⟩ := gd_e h
    obtain ⟨g134, h⟩ := gd_e h
    obtain ⟨s135, es135, h⟩ := bnd_e h
    refine gx_putF (t := 1) (k := 22) (x := (s128 (-1) 0)) (ty := (.array .byte)) 202 rfl cw1 (by decide) g132 g133.1 g133.2 q545 same_f rfl rfl (by decide +kernel) (refOk rfl _).1 (refOk rfl _).2 ((congrArg (rf x0) (ux_s _ _ _ _)).trans (rf_ne g134)) es135 dX0_init_202 ?_
    exact gx_vret 205 dX0_init_205 (rt h)
