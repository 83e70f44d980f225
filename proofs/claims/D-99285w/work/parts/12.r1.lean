/-! THE SYSTEM: methods as functions, and their walks (written by xparts.py) -/
set_option maxRecDepth 100000
/-! java/util/AbstractCollection.init -/
noncomputable def j0_init (b : Bool) (a0 : Int) (s0 : XS) : Option (Int × XS) :=
  some (0, s0)
theorem mj0_init {b : Bool} {x0 : Nat} {D : XD} {a0 : Int} {s0 : XS} {res : Int × XS} (h : j0_init b a0 s0 = some res) (l : Launch) : XMet0 l yJ0_init cJ0_init 1 none 2 b x0 D [.ref (ad x0 a0)] s0 0 res := by
  refine XMet0.ofn [(0, .ref (ad x0 a0))] "java/util/AbstractCollection" "<init>" rfl rfl (plainFor_of_name (by decide)) (Nat.le_of_ble_eq_true rfl) rfl ?_
  unfold j0_init at h
  generalize nC s0 = cN
  generalize nS s0 = sN
  refine gx_aload_n 0 0 dJ0_init_0 rfl ?_
  refine gx_objInit 1 q214 q195 q196 dJ0_init_1 (by decide) (Nat.le_of_ble_eq_true rfl) ?_
  exact gx_vret 4 dJ0_init_4 (rt h)
/-! java/util/AbstractList.init -/
noncomputable def j1_init (b : Bool) (a0 : Int) (s0 : XS) : Option (Int × XS) :=
  Option.bind (j0_init b a0 s0) fun z1 =>
  gd (tg b z1.2 a0 = 21) <|
  gd (0 ≤ a0 ∧ ¬ (1438 ≤ a0 ∧ a0 < 1514)) <|
  bnd (ux z1.2 a0 0 0) fun s4 =>
  some (0, s4)
theorem mj1_init {b : Bool} {x0 : Nat} {D : XD} {a0 : Int} {s0 : XS} {res : Int × XS} (h : j1_init b a0 s0 = some res) (l : Launch) : XMet0 l yJ1_init cJ1_init 1 none 3 b x0 D [.ref (ad x0 a0)] s0 0 res := by
  refine XMet0.ofn [(0, .ref (ad x0 a0))] "java/util/AbstractList" "<init>" rfl rfl (plainFor_of_name (by decide)) (Nat.le_of_ble_eq_true rfl) rfl ?_
  unfold j1_init at h
  generalize nC s0 = cN
  generalize nS s0 = sN
  refine gx_aload_n 0 0 dJ1_init_0 rfl ?_
  obtain ⟨z1, ez1, h⟩ := opt_e h
  refine gx_callI (As := []) (rest := []) 1 0 (mj0_init ez1 l) q213 q149 q211 q212 rfl (by decide +kernel) (by decide) rfl rfl (Nat.le_of_ble_eq_true rfl) dJ1_init_1 ?_
  refine gx_aload_n 4 0 dJ1_init_4 rfl ?_
  refine gx_iconst 5 dJ1_init_5 ?_
  obtain ⟨g2, h⟩ := gd_e h
  obtain ⟨g3, h⟩ := gd_e h
  obtain ⟨s4, es4, h⟩ := bnd_e h
  refine gx_put (t := 21) (k := 0) (x := 0) (ty := .int) 6 cw21 (by decide) g2 g3.1 g3.2 q221 same_f rfl (by decide +kernel) rfl rfl (congrArg J (ux_s _ _ _ _)) es4 dJ1_init_6 ?_
  exact gx_vret 9 dJ1_init_9 (rt h)
/-! java/util/ArrayList.init -/
noncomputable def j2_init (b : Bool) (a0 : Int) (a1 : Int) (s0 : XS) : Option (Int × XS) :=
  Option.bind (j1_init b a0 s0) fun z2 =>
  if i32 a1 ≤ 0 then
    if i32 a1 = 0 then
      none
    else
      none
  else
    gd (0 ≤ z2.2 (-1) 0 ∧ 0 ≤ z2.2 (-1) 1) <|
    gd (0 ≤ i32 a1 ∧ i32 a1 < 1000000) <|
    bnd (nwx z2.2 110 (i32 a1) (i32 a1) (fun _ => -1)) fun s7 =>
    gd (tg b s7 a0 = 21) <|
    gd (0 ≤ a0 ∧ ¬ (1438 ≤ a0 ∧ a0 < 1514)) <|
    gd (¬ (z2.2 (-1) 0) = -1) <|
    bnd (ux s7 a0 1 (z2.2 (-1) 0)) fun s11 =>
    some (0, s11)
theorem mj2_init {b : Bool} {x0 : Nat} {D : XD} {a0 : Int} {a1 : Int} {s0 : XS} {res : Int × XS} (h : j2_init b a0 a1 s0 = some res) (l : Launch) : XMet0 l yJ2_init cJ2_init 2 none 4 b x0 D [.ref (ad x0 a0), J a1] s0 0 res := by
  refine XMet0.ofn [(0, .ref (ad x0 a0)), (1, J a1)] "java/util/ArrayList" "<init>" rfl rfl (plainFor_of_name (by decide)) (Nat.le_of_ble_eq_true rfl) rfl ?_
  unfold j2_init at h
  generalize nC s0 = cN
  generalize nS s0 = sN
  refine gx_aload_n 0 0 dJ2_init_0 rfl ?_
  obtain ⟨z2, ez2, h⟩ := opt_e h
  refine gx_callI (As := []) (rest := []) 1 0 (mj1_init ez2 l) q210 q150 q208 q209 rfl (by decide +kernel) (by decide) rfl rfl (Nat.le_of_ble_eq_true rfl) dJ2_init_1 ?_
  refine gx_iload_n 4 1 dJ2_init_4 rfl ?_
  refine gx_if_le 5 19 dJ2_init_5 (by decide) (fun c3 => ?_) (fun c3 => ?_)
  · replace h := if_t h c3
    refine gx_iload_n 19 1 dJ2_init_19 rfl ?_
    refine gx_if_ne 20 33 dJ2_init_20 (by decide) (fun c4 => ?_) (fun c4 => ?_)
    · replace h := if_f h c4
      cases h
    · replace h := if_t h c4
      refine gx_aload_n 23 0 dJ2_init_23 rfl ?_
      cases h
  · replace h := if_f h c3
    refine gx_aload_n 8 0 dJ2_init_8 rfl ?_
    refine gx_iload_n 9 1 dJ2_init_9 rfl ?_
    obtain ⟨g5, h⟩ := gd_e h
    obtain ⟨g6, h⟩ := gd_e h
    obtain ⟨s7, es7, h⟩ := bnd_e h
    refine gx_anew (t := 110) (C := "java/lang/Object") 10 g5 (by decide) (by decide) (fun _ _ => rfl) g6 q215 (fun _ h => h.2.2.2.2.2.2.1) es7 dJ2_init_10 ?_
    obtain ⟨g8, h⟩ := gd_e h
    obtain ⟨g9, h⟩ := gd_e h
    obtain ⟨g10, h⟩ := gd_e h
    obtain ⟨s11, es11, h⟩ := bnd_e h
    refine gx_put (t := 21) (k := 1) (x := (z2.2 (-1) 0)) (ty := (.array (.object "java/lang/Object"))) 13 cw21 (by decide) g8 g9.1 g9.2 q219 same_f rfl (by decide +kernel) (refOk rfl _).1 (refOk rfl _).2 ((congrArg (rf x0) (ux_s _ _ _ _)).trans (rf_ne g10)) es11 dJ2_init_13 ?_
    refine gx_goto 16 60 dJ2_init_16 (by decide) ?_
    exact gx_vret 60 dJ2_init_60 (rt h)
/-! jdk/internal/util/ArraysSupport.newLength -/
noncomputable def j10_newLength (b : Bool) (a1 : Int) (a2 : Int) (a3 : Int) (s0 : XS) : Option (Int × XS) :=
  Option.bind (j12_max b a2 a3 s0) fun z4 =>
  bnd (a1 + z4.1) fun x3_5 =>
  bnd (fun (x0_6 : Int) (x1_7 : Int) (s8 : XS) =>
      none) fun j9 =>
  if i32 x3_5 ≤ i32 0 then
    j9 a1 a2 z4.2
  else
    if i32 2147483639 < i32 x3_5 then
      j9 a1 a2 z4.2
    else
      some (x3_5, z4.2)
theorem mj10_newLength {b : Bool} {x0 : Nat} {D : XD} {a1 : Int} {a2 : Int} {a3 : Int} {s0 : XS} {res : Int × XS} (h : j10_newLength b a1 a2 a3 s0 = some res) (l : Launch) : XMet0 l yJ10_newLength cJ10_newLength 4 (some .int) 2 b x0 D [J a1, J a2, J a3] s0 1 res := by
  refine XMet0.ofn [(0, J a1), (1, J a2), (2, J a3)] "jdk/internal/util/ArraysSupport" "newLength" rfl rfl (plainFor_of_name (by decide)) (Nat.le_of_ble_eq_true rfl) rfl ?_
  unfold j10_newLength at h
  generalize nC s0 = cN
  generalize nS s0 = sN
  refine gx_iload_n 0 0 dJ10_newLength_0 rfl ?_
  refine gx_iload_n 1 1 dJ10_newLength_1 rfl ?_
  refine gx_iload_n 2 2 dJ10_newLength_2 rfl ?_
  obtain ⟨z4, ez4, h⟩ := opt_e h
  refine gx_callS (As := [J a2, J a3]) (rest := [J a1]) (st' := [J z4.1, J a1]) 3 2 (mj12_max ez4 l) (lw_S q937 q938 q170 q939) (by decide +kernel) (by decide) rfl rfl (Nat.le_of_ble_eq_true rfl) dJ10_newLength_3 rfl ?_
  refine gx_iadd 6 dJ10_newLength_6 ?_
  obtain ⟨x3_5, ex3_5, h⟩ := bnd_e h
  refine gx_istore_n 7 [(3, J x3_5), (0, J a1), (1, J a2), (2, J a3)] dJ10_newLength_7 (by decide) ex3_5 rfl ?_
  refine gx_iconst 8 dJ10_newLength_8 ?_
  refine gx_iload_n 9 0 dJ10_newLength_9 rfl ?_
  obtain ⟨j9, ej9, h⟩ := bnd_e h
  have hj9 : ∀ (x0_6 : Int) (x1_7 : Int) (s8 : XS), j9 x0_6 x1_7 s8 = some res → GX l cJ10_newLength "jdk/internal/util/ArraysSupport" 4 (some .int) "newLength" [] x0 D b 1 2 cN sN (0, res) s8 21 [(0, J x0_6), (1, J x1_7)] [] := by
    clear h
    intro x0_6 x1_7 s8 h
    subst ej9
    refine gx_iload_n 21 0 dJ10_newLength_21 rfl ?_
    refine gx_iload_n 22 1 dJ10_newLength_22 rfl ?_
    cases h
  refine gx_icmp_ge 10 21 dJ10_newLength_10 (by decide) (fun c10 => ?_) (fun c10 => ?_)
  · replace h := if_t h c10
    refine gx_sub [1, 2] rfl ?_
    exact hj9 _ _ _ h
  · replace h := if_f h c10
    refine gx_iload_n 13 0 dJ10_newLength_13 rfl ?_
    refine gx_ldc (v := 2147483639) 14 dJ10_newLength_14 q940 (by decide) ?_
    refine gx_icmp_gt 16 21 dJ10_newLength_16 (by decide) (fun c11 => ?_) (fun c11 => ?_)
    · replace h := if_t h c11
      refine gx_sub [1, 2] rfl ?_
      exact hj9 _ _ _ h
    · replace h := if_f h c11
      refine gx_iload_n 19 0 dJ10_newLength_19 rfl ?_
      exact gx_iret 20 dJ10_newLength_20 (rt h)
/-! java/util/Arrays.copyOf_2 -/
noncomputable def j13_copyOf_2 (b : Bool) (a1 : Int) (a2 : Int) (a3 : Int) (s0 : XS) : Option (Int × XS) :=
  gd (a3 = (s0 (-1) 109)) <|
  gd (0 ≤ s0 (-1) 0 ∧ 0 ≤ s0 (-1) 1) <|
  gd (0 ≤ i32 a2 ∧ i32 a2 < 1000000) <|
  bnd (nwx s0 110 (i32 a2) (i32 a2) (fun _ => -1)) fun s7 =>
  bnd (s0 (-1) 0) fun x3_8 =>
  gd (tg b s7 a1 = 110) <|
  Option.bind (j12_min b (ln b s7 a1) a2 s7) fun z10 =>
  gd (tg b z10.2 a1 = 110) <|
  gd (tg b z10.2 x3_8 = 110) <|
  gd (0 ≤ x3_8 ∧ ¬ (1438 ≤ x3_8 ∧ x3_8 < 1514)) <|
  gd ((0 ≤ i32 0 ∧ 0 ≤ i32 0 ∧ 0 ≤ i32 z10.1) ∧ i32 0 + i32 z10.1 ≤ ln b z10.2 a1 ∧ i32 0 + i32 z10.1 ≤ ln b z10.2 x3_8) <|
  gd (∀ i : Nat, i < (i32 z10.1).toNat → (z10.2 a1 (i32 0 + (i : Int))) = -1 ∨ (0 < tg b z10.2 (z10.2 a1 (i32 0 + (i : Int))) ∧ tg b z10.2 (z10.2 a1 (i32 0 + (i : Int))) < 100)) <|
  bnd (cpx z10.2 a1 (i32 0) x3_8 (i32 0) (i32 z10.1)) fun s16 =>
  some (x3_8, s16)
theorem mj13_copyOf_2 {b : Bool} {x0 : Nat} {D : XD} {a1 : Int} {a2 : Int} {a3 : Int} {s0 : XS} {res : Int × XS} (h : j13_copyOf_2 b a1 a2 a3 s0 = some res) (l : Launch) : XMet0 l yJ13_copyOf_2 cJ13_copyOf_2 4 (some (.array (.object "java/lang/Object"))) 2 b x0 D [.ref (ad x0 a1), J a2, .ref (ad x0 a3)] s0 3 res := by
  refine XMet0.ofn [(0, .ref (ad x0 a1)), (1, J a2), (2, .ref (ad x0 a3))] "java/util/Arrays" "copyOf" rfl rfl (plainFor_of_name (by decide)) (Nat.le_of_ble_eq_true rfl) rfl ?_
  unfold j13_copyOf_2 at h
  generalize nC s0 = cN
  generalize nS s0 = sN
  refine gx_aload_n 0 2 dJ13_copyOf_2_0 rfl ?_
  refine gx_ldcM 1 q979 dJ13_copyOf_2_1 ?_
  obtain ⟨g4, h⟩ := gd_e h
  refine gx_acmp_same (tgt := 13) 3 g4 dJ13_copyOf_2_3 (by decide) ?_
  refine gx_iload_n 6 1 dJ13_copyOf_2_6 rfl ?_
  obtain ⟨g5, h⟩ := gd_e h
  obtain ⟨g6, h⟩ := gd_e h
  obtain ⟨s7, es7, h⟩ := bnd_e h
  refine gx_anew (t := 110) (C := "java/lang/Object") 7 g5 (by decide) (by decide) (fun _ _ => rfl) g6 q980 (fun _ h => h.2.2.2.2.2.2.1) es7 dJ13_copyOf_2_7 ?_
  refine gx_goto 10 24 dJ13_copyOf_2_10 (by decide) ?_
  obtain ⟨x3_8, ex3_8, h⟩ := bnd_e h
  refine gx_astore_nv 24 [(3, .ref (ad x0 x3_8)), (0, .ref (ad x0 a1)), (1, J a2), (2, .ref (ad x0 a3))] dJ13_copyOf_2_24 (by decide) ex3_8 rfl ?_
  refine gx_aload_n 25 1 dJ13_copyOf_2_25 rfl ?_
  refine gx_iconst 26 dJ13_copyOf_2_26 ?_
  refine gx_aload_n 27 0 dJ13_copyOf_2_27 rfl ?_
  refine gx_iconst 28 dJ13_copyOf_2_28 ?_
  refine gx_aload_n 29 1 dJ13_copyOf_2_29 rfl ?_
  obtain ⟨g9, h⟩ := gd_e h
  refine gx_alen (t := 110) (ty := (.object "java/lang/Object")) 30 (by decide) (by decide) g9 dJ13_copyOf_2_30 ?_
  refine gx_iload_n 31 2 dJ13_copyOf_2_31 rfl ?_
  obtain ⟨z10, ez10, h⟩ := opt_e h
  refine gx_callS (As := [J (ln b s7 a1), J a2]) (rest := [J 0, .ref (ad x0 x3_8), J 0, .ref (ad x0 a1)]) (st' := [J z10.1, J 0, .ref (ad x0 x3_8), J 0, .ref (ad x0 a1)]) 32 2 (mj12_min ez10 l) (lw_S q981 q982 q170 q983) (by decide +kernel) (by decide) rfl rfl (Nat.le_of_ble_eq_true rfl) dJ13_copyOf_2_32 rfl ?_
  obtain ⟨g11, h⟩ := gd_e h
  obtain ⟨g12, h⟩ := gd_e h
  obtain ⟨g13, h⟩ := gd_e h
  obtain ⟨g14, h⟩ := gd_e h
  obtain ⟨g15, h⟩ := gd_e h
  obtain ⟨s16, es16, h⟩ := bnd_e h
  refine gx_copyO 35 g11 g12 g13.1 g13.2 g14 g15 q984 q986 q985 q172 (by decide) (Nat.le_of_ble_eq_true rfl) es16 dJ13_copyOf_2_35 ?_
  refine gx_aload_n 38 0 dJ13_copyOf_2_38 rfl ?_
  exact gx_aret 39 (Or.inr ⟨_, rfl⟩) dJ13_copyOf_2_39 (rt h)
/-! java/util/Arrays.copyOf -/
noncomputable def j13_copyOf (b : Bool) (a1 : Int) (a2 : Int) (s0 : XS) : Option (Int × XS) :=
  gd (tg b s0 a1 = 110) <|
  Option.bind (j13_copyOf_2 b a1 a2 (s0 (-1) 109) s0) fun z4 =>
  some (z4.1, z4.2)
theorem mj13_copyOf {b : Bool} {x0 : Nat} {D : XD} {a1 : Int} {a2 : Int} {s0 : XS} {res : Int × XS} (h : j13_copyOf b a1 a2 s0 = some res) (l : Launch) : XMet0 l yJ13_copyOf cJ13_copyOf 2 (some (.array (.object "java/lang/Object"))) 3 b x0 D [.ref (ad x0 a1), J a2] s0 3 res := by
  refine XMet0.ofn [(0, .ref (ad x0 a1)), (1, J a2)] "java/util/Arrays" "copyOf" rfl rfl (plainFor_of_name (by decide)) (Nat.le_of_ble_eq_true rfl) rfl ?_
  unfold j13_copyOf at h
  generalize nC s0 = cN
  generalize nS s0 = sN
  refine gx_aload_n 0 0 dJ13_copyOf_0 rfl ?_
  refine gx_iload_n 1 1 dJ13_copyOf_1 rfl ?_
  refine gx_aload_n 2 0 dJ13_copyOf_2 rfl ?_
  obtain ⟨g3, h⟩ := gd_e h
  refine gx_getC 3 g3 q947 q2669 q2668 q948 q975 (by decide) (Nat.le_of_ble_eq_true rfl) dJ13_copyOf_3 ?_
  obtain ⟨z4, ez4, h⟩ := opt_e h
  refine gx_callS (As := [.ref (ad x0 a1), J a2, .ref (ad x0 (s0 (-1) 109))]) (rest := []) (st' := [.ref (ad x0 z4.1)]) 6 3 (mj13_copyOf_2 ez4 l) (lw_S q976 q977 q171 q978) (by decide +kernel) (by decide) rfl rfl (Nat.le_of_ble_eq_true rfl) dJ13_copyOf_6 rfl ?_
  exact gx_aret 9 (Or.inr ⟨_, rfl⟩) dJ13_copyOf_9 (rt h)
/-! java/util/ArrayList.grow_2 -/
noncomputable def j2_grow_2 (b : Bool) (a0 : Int) (a1 : Int) (s0 : XS) : Option (Int × XS) :=
  gd (tg b s0 a0 = 21) <|
  gd (¬ (s0 a0 1) = -1) <|
  gd (tg b s0 (s0 a0 1) = 110) <|
  bnd (ln b s0 (s0 a0 1)) fun x2_5 =>
  bnd (fun (x1_6 : Int) (x2_7 : Int) (s8 : XS) =>
      Option.bind (j10_newLength b x2_7 (x1_6 - x2_7) (ishr x2_7 1) s8) fun z9 =>
      bnd z9.1 fun x3_10 =>
      gd (tg b z9.2 a0 = 21) <|
      gd (¬ (z9.2 a0 1) = -1) <|
      Option.bind (j13_copyOf b (z9.2 a0 1) x3_10 z9.2) fun z13 =>
      gd (tg b z13.2 a0 = 21) <|
      gd (0 ≤ a0 ∧ ¬ (1438 ≤ a0 ∧ a0 < 1514)) <|
      gd (¬ z13.1 = -1) <|
      bnd (ux z13.2 a0 1 z13.1) fun s17 =>
      some (z13.1, s17)) fun j18 =>
  if 0 < i32 x2_5 then
    j18 a1 x2_5 s0
  else
    gd (tg b s0 a0 = 21) <|
    gd (¬ (s0 a0 1) = -1) <|
    none
theorem mj2_grow_2 {b : Bool} {x0 : Nat} {D : XD} {a0 : Int} {a1 : Int} {s0 : XS} {res : Int × XS} (h : j2_grow_2 b a0 a1 s0 = some res) (l : Launch) : XMet0 l yJ2_grow_2 cJ2_grow_2 4 (some (.array (.object "java/lang/Object"))) 4 b x0 D [.ref (ad x0 a0), J a1] s0 3 res := by
  refine XMet0.ofn [(0, .ref (ad x0 a0)), (1, J a1)] "java/util/ArrayList" "grow" rfl rfl (plainFor_of_name (by decide)) (Nat.le_of_ble_eq_true rfl) rfl ?_
  unfold j2_grow_2 at h
  generalize nC s0 = cN
  generalize nS s0 = sN
  refine gx_aload_n 0 0 dJ2_grow_2_0 rfl ?_
  obtain ⟨g2, h⟩ := gd_e h
  obtain ⟨g3, h⟩ := gd_e h
  refine gx_get (t := 21) (k := 1) (v := .ref (ad x0 (s0 a0 1))) 1 cw21 (by decide) g2 q219 same_f (rf_ne g3) dJ2_grow_2_1 ?_
  obtain ⟨g4, h⟩ := gd_e h
  refine gx_alen (t := 110) (ty := (.object "java/lang/Object")) 4 (by decide) (by decide) g4 dJ2_grow_2_4 ?_
  obtain ⟨x2_5, ex2_5, h⟩ := bnd_e h
  refine gx_istore_n 5 [(2, J x2_5), (0, .ref (ad x0 a0)), (1, J a1)] dJ2_grow_2_5 (by decide) ex2_5 rfl ?_
  refine gx_iload_n 6 0 dJ2_grow_2_6 rfl ?_
  obtain ⟨j18, ej18, h⟩ := bnd_e h
  have hj18 : ∀ (x1_6 : Int) (x2_7 : Int) (s8 : XS), j18 x1_6 x2_7 s8 = some res → GX l cJ2_grow_2 "java/util/ArrayList" 4 (some (.array (.object "java/lang/Object"))) "grow" [] x0 D b 3 4 cN sN (0, res) s8 20 [(0, .ref (ad x0 a0)), (1, J x1_6), (2, J x2_7)] [] := by
    clear h
    intro x1_6 x2_7 s8 h
    subst ej18
    refine gx_iload_n 20 2 dJ2_grow_2_20 rfl ?_
    refine gx_iload_n 21 1 dJ2_grow_2_21 rfl ?_
    refine gx_iload_n 22 2 dJ2_grow_2_22 rfl ?_
    refine gx_isub 23 dJ2_grow_2_23 ?_
    refine gx_iload_n 24 2 dJ2_grow_2_24 rfl ?_
    refine gx_iconst 25 dJ2_grow_2_25 ?_
    refine gx_ishr 26 dJ2_grow_2_26 ?_
    obtain ⟨z9, ez9, h⟩ := opt_e h
    refine gx_callS (As := [J x2_7, J (x1_6 - x2_7), J (ishr x2_7 1)]) (rest := []) (st' := [J z9.1]) 27 3 (mj10_newLength ez9 l) (lw_S q934 q935 q166 q936) (by decide +kernel) (by decide) rfl rfl (Nat.le_of_ble_eq_true rfl) dJ2_grow_2_27 rfl ?_
    obtain ⟨x3_10, ex3_10, h⟩ := bnd_e h
    refine gx_istore_n 30 [(3, J x3_10), (0, .ref (ad x0 a0)), (1, J x1_6), (2, J x2_7)] dJ2_grow_2_30 (by decide) ex3_10 rfl ?_
    refine gx_aload_n 31 1 dJ2_grow_2_31 rfl ?_
    refine gx_aload_n 32 1 dJ2_grow_2_32 rfl ?_
    obtain ⟨g11, h⟩ := gd_e h
    obtain ⟨g12, h⟩ := gd_e h
    refine gx_get (t := 21) (k := 1) (v := .ref (ad x0 (z9.2 a0 1))) 33 cw21 (by decide) g11 q219 same_f (rf_ne g12) dJ2_grow_2_33 ?_
    refine gx_iload_n 36 0 dJ2_grow_2_36 rfl ?_
    obtain ⟨z13, ez13, h⟩ := opt_e h
    refine gx_callS (As := [.ref (ad x0 (z9.2 a0 1)), J x3_10]) (rest := [.ref (ad x0 a0)]) (st' := [.ref (ad x0 z13.1), .ref (ad x0 a0)]) 37 2 (mj13_copyOf ez13 l) (lw_S q944 q945 q171 q946) (by decide +kernel) (by decide) rfl rfl (Nat.le_of_ble_eq_true rfl) dJ2_grow_2_37 rfl ?_
    refine gx_dup_x1 40 dJ2_grow_2_40 rfl rfl ?_
    obtain ⟨g14, h⟩ := gd_e h
    obtain ⟨g15, h⟩ := gd_e h
    obtain ⟨g16, h⟩ := gd_e h
    obtain ⟨s17, es17, h⟩ := bnd_e h
    refine gx_put (t := 21) (k := 1) (x := z13.1) (ty := (.array (.object "java/lang/Object"))) 41 cw21 (by decide) g14 g15.1 g15.2 q219 same_f rfl (by decide +kernel) (refOk rfl _).1 (refOk rfl _).2 ((congrArg (rf x0) (ux_s _ _ _ _)).trans (rf_ne g16)) es17 dJ2_grow_2_41 ?_
    exact gx_aret 44 (Or.inr ⟨_, rfl⟩) dJ2_grow_2_44 (rt h)
  refine gx_if_gt 7 20 dJ2_grow_2_7 (by decide) (fun c19 => ?_) (fun c19 => ?_)
  · replace h := if_t h c19
    refine gx_sub [1, 2, 0] rfl ?_
    exact hj18 _ _ _ h
  · replace h := if_f h c19
    refine gx_aload_n 10 1 dJ2_grow_2_10 rfl ?_
    obtain ⟨g20, h⟩ := gd_e h
    obtain ⟨g21, h⟩ := gd_e h
    refine gx_get (t := 21) (k := 1) (v := .ref (ad x0 (s0 a0 1))) 11 cw21 (by decide) g20 q219 same_f (rf_ne g21) dJ2_grow_2_11 ?_
    cases h
/-! java/util/ArrayList.grow -/
noncomputable def j2_grow (b : Bool) (a0 : Int) (s0 : XS) : Option (Int × XS) :=
  gd (tg b s0 a0 = 21) <|
  gd (tg b s0 a0 = 21) <|
  Option.bind (j2_grow_2 b a0 ((s0 a0 2) + 1) s0) fun z2 =>
  some (z2.1, z2.2)
theorem mj2_grow {b : Bool} {x0 : Nat} {D : XD} {a0 : Int} {s0 : XS} {res : Int × XS} (h : j2_grow b a0 s0 = some res) (l : Launch) : XMet0 l yJ2_grow cJ2_grow 1 (some (.array (.object "java/lang/Object"))) 5 b x0 D [.ref (ad x0 a0)] s0 3 res := by
  refine XMet0.ofn [(0, .ref (ad x0 a0))] "java/util/ArrayList" "grow" rfl rfl (plainFor_of_name (by decide)) (Nat.le_of_ble_eq_true rfl) rfl ?_
  unfold j2_grow at h
  generalize nC s0 = cN
  generalize nS s0 = sN
  refine gx_aload_n 0 0 dJ2_grow_0 rfl ?_
  refine gx_aload_n 1 0 dJ2_grow_1 rfl ?_
  obtain ⟨g1, h⟩ := gd_e h
  refine gx_get (t := 21) (k := 2) (v := J (s0 a0 2)) 2 cw21 (by decide) g1 q220 same_f rfl dJ2_grow_2 ?_
  refine gx_iconst 5 dJ2_grow_5 ?_
  refine gx_iadd 6 dJ2_grow_6 ?_
  obtain ⟨g3, h⟩ := gd_e h
  obtain ⟨z2, ez2, h⟩ := opt_e h
  refine gx_callV (As := [J ((s0 a0 2) + 1)]) (rest := []) (st' := [.ref (ad x0 z2.1)]) 7 1 cw21 g3 (mj2_grow_2 ez2 l) (lw_V q928 q930 qs19 q151 q931) (by decide +kernel) (by decide) rfl rfl (Nat.le_of_ble_eq_true rfl) dJ2_grow_7 rfl ?_
  exact gx_aret 10 (Or.inr ⟨_, rfl⟩) dJ2_grow_10 (rt h)
/-! java/util/ArrayList.add_2 -/
noncomputable def j2_add_2 (b : Bool) (a0 : Int) (a1 : Int) (a2 : Int) (a3 : Int) (s0 : XS) : Option (Int × XS) :=
  gd (tg b s0 a2 = 110) <|
  bnd (fun (x2_5 : Int) (x3_6 : Int) (s7 : XS) =>
      gd (tg b s7 x2_5 = 110) <|
      gd (0 ≤ x2_5 ∧ ¬ (1438 ≤ x2_5 ∧ x2_5 < 1514)) <|
      gd (ok (ln b s7 x2_5) x3_6) <|
      gd (0 < tg b s7 a1 ∧ tg b s7 a1 < 100) <|
      gd (¬ a1 = -1) <|
      bnd (ux s7 x2_5 (i32 x3_6) a1) fun s13 =>
      gd (tg b s13 a0 = 21) <|
      gd (0 ≤ a0 ∧ ¬ (1438 ≤ a0 ∧ a0 < 1514)) <|
      bnd (ux s13 a0 2 (x3_6 + 1)) fun s16 =>
      some (0, s16)) fun j17 =>
  if i32 a3 = i32 (ln b s0 a2) then
    gd (tg b s0 a0 = 21) <|
    Option.bind (j2_grow b a0 s0) fun z19 =>
    bnd z19.1 fun x2_21 =>
    j17 x2_21 a3 z19.2
  else
    j17 a2 a3 s0
theorem mj2_add_2 {b : Bool} {x0 : Nat} {D : XD} {a0 : Int} {a1 : Int} {a2 : Int} {a3 : Int} {s0 : XS} {res : Int × XS} (h : j2_add_2 b a0 a1 a2 a3 s0 = some res) (l : Launch) : XMet0 l yJ2_add_2 cJ2_add_2 4 none 6 b x0 D [.ref (ad x0 a0), .ref (ad x0 a1), .ref (ad x0 a2), J a3] s0 0 res := by
  refine XMet0.ofn [(0, .ref (ad x0 a0)), (1, .ref (ad x0 a1)), (2, .ref (ad x0 a2)), (3, J a3)] "java/util/ArrayList" "add" rfl rfl (plainFor_of_name (by decide)) (Nat.le_of_ble_eq_true rfl) rfl ?_
  unfold j2_add_2 at h
  generalize nC s0 = cN
  generalize nS s0 = sN
  refine gx_iload_n 0 3 dJ2_add_2_0 rfl ?_
  refine gx_aload_n 1 2 dJ2_add_2_1 rfl ?_
  obtain ⟨g4, h⟩ := gd_e h
  refine gx_alen (t := 110) (ty := (.object "java/lang/Object")) 2 (by decide) (by decide) g4 dJ2_add_2_2 ?_
  obtain ⟨j17, ej17, h⟩ := bnd_e h
  have hj17 : ∀ (x2_5 : Int) (x3_6 : Int) (s7 : XS), j17 x2_5 x3_6 s7 = some res → GX l cJ2_add_2 "java/util/ArrayList" 4 none "add" [] x0 D b 0 6 cN sN (0, res) s7 11 [(0, .ref (ad x0 a0)), (1, .ref (ad x0 a1)), (2, .ref (ad x0 x2_5)), (3, J x3_6)] [] := by
    clear h
    intro x2_5 x3_6 s7 h
    subst ej17
    refine gx_aload_n 11 2 dJ2_add_2_11 rfl ?_
    refine gx_iload_n 12 3 dJ2_add_2_12 rfl ?_
    refine gx_aload_n 13 1 dJ2_add_2_13 rfl ?_
    obtain ⟨g8, h⟩ := gd_e h
    obtain ⟨g9, h⟩ := gd_e h
    obtain ⟨g10, h⟩ := gd_e h
    obtain ⟨g11, h⟩ := gd_e h
    obtain ⟨g12, h⟩ := gd_e h
    obtain ⟨s13, es13, h⟩ := bnd_e h
    refine gx_aastO 14 g8 g9.1 g9.2 g10 g11 es13 dJ2_add_2_14 g12 ?_
    refine gx_aload_n 15 0 dJ2_add_2_15 rfl ?_
    refine gx_iload_n 16 3 dJ2_add_2_16 rfl ?_
    refine gx_iconst 17 dJ2_add_2_17 ?_
    refine gx_iadd 18 dJ2_add_2_18 ?_
    obtain ⟨g14, h⟩ := gd_e h
    obtain ⟨g15, h⟩ := gd_e h
    obtain ⟨s16, es16, h⟩ := bnd_e h
    refine gx_put (t := 21) (k := 2) (x := (x3_6 + 1)) (ty := .int) 19 cw21 (by decide) g14 g15.1 g15.2 q220 same_f rfl (by decide +kernel) rfl rfl (congrArg J (ux_s _ _ _ _)) es16 dJ2_add_2_19 ?_
    exact gx_vret 22 dJ2_add_2_22 (rt h)
  refine gx_icmp_ne 3 11 dJ2_add_2_3 (by decide) (fun c18 => ?_) (fun c18 => ?_)
  · replace h := if_f h c18
    refine gx_sub [0, 1, 2, 3] rfl ?_
    exact hj17 _ _ _ h
  · replace h := if_t h c18
    refine gx_aload_n 6 0 dJ2_add_2_6 rfl ?_
    obtain ⟨g20, h⟩ := gd_e h
    obtain ⟨z19, ez19, h⟩ := opt_e h
    refine gx_callV (As := []) (rest := []) (st' := [.ref (ad x0 z19.1)]) 7 0 cw21 g20 (mj2_grow ez19 l) (lw_V q924 q926 qs18 q151 q927) (by decide +kernel) (by decide) rfl rfl (Nat.le_of_ble_eq_true rfl) dJ2_add_2_7 rfl ?_
    obtain ⟨x2_21, ex2_21, h⟩ := bnd_e h
    refine gx_astore_nv 10 [(2, .ref (ad x0 x2_21)), (0, .ref (ad x0 a0)), (1, .ref (ad x0 a1)), (3, J a3)] dJ2_add_2_10 (by decide) ex2_21 rfl ?_
    refine gx_sub [1, 2, 0, 3] rfl ?_
    exact hj17 _ _ _ h
/-! java/util/ArrayList.add -/
noncomputable def j2_add (b : Bool) (a0 : Int) (a1 : Int) (s0 : XS) : Option (Int × XS) :=
  gd (tg b s0 a0 = 21) <|
  gd (tg b s0 a0 = 21) <|
  gd (0 ≤ a0 ∧ ¬ (1438 ≤ a0 ∧ a0 < 1514)) <|
  bnd (ux s0 a0 0 ((s0 a0 0) + 1)) fun s5 =>
  gd (tg b s5 a0 = 21) <|
  gd (¬ (s5 a0 1) = -1) <|
  gd (tg b s5 a0 = 21) <|
  gd (tg b s5 a0 = 21) <|
  Option.bind (j2_add_2 b a0 a1 (s5 a0 1) (s5 a0 2) s5) fun z9 =>
  some (1, z9.2)
theorem mj2_add {b : Bool} {x0 : Nat} {D : XD} {a0 : Int} {a1 : Int} {s0 : XS} {res : Int × XS} (h : j2_add b a0 a1 s0 = some res) (l : Launch) : XMet0 l yJ2_add cJ2_add 2 (some .boolean) 7 b x0 D [.ref (ad x0 a0), .ref (ad x0 a1)] s0 1 res := by
  refine XMet0.ofn [(0, .ref (ad x0 a0)), (1, .ref (ad x0 a1))] "java/util/ArrayList" "add" rfl rfl (plainFor_of_name (by decide)) (Nat.le_of_ble_eq_true rfl) rfl ?_
  unfold j2_add at h
  generalize nC s0 = cN
  generalize nS s0 = sN
  refine gx_aload_n 0 0 dJ2_add_0 rfl ?_
  refine gx_dup 1 dJ2_add_1 rfl ?_
  obtain ⟨g2, h⟩ := gd_e h
  refine gx_get (t := 21) (k := 0) (v := J (s0 a0 0)) 2 cw21 (by decide) g2 q222 (sm_ArrayList_modCount) rfl dJ2_add_2 ?_
  refine gx_iconst 5 dJ2_add_5 ?_
  refine gx_iadd 6 dJ2_add_6 ?_
  obtain ⟨g3, h⟩ := gd_e h
  obtain ⟨g4, h⟩ := gd_e h
  obtain ⟨s5, es5, h⟩ := bnd_e h
  refine gx_put (t := 21) (k := 0) (x := ((s0 a0 0) + 1)) (ty := .int) 7 cw21 (by decide) g3 g4.1 g4.2 q222 (sm_ArrayList_modCount) rfl (by decide +kernel) rfl rfl (congrArg J (ux_s _ _ _ _)) es5 dJ2_add_7 ?_
  refine gx_aload_n 10 0 dJ2_add_10 rfl ?_
  refine gx_aload_n 11 1 dJ2_add_11 rfl ?_
  refine gx_aload_n 12 0 dJ2_add_12 rfl ?_
  obtain ⟨g6, h⟩ := gd_e h
  obtain ⟨g7, h⟩ := gd_e h
  refine gx_get (t := 21) (k := 1) (v := .ref (ad x0 (s5 a0 1))) 13 cw21 (by decide) g6 q219 same_f (rf_ne g7) dJ2_add_13 ?_
  refine gx_aload_n 16 0 dJ2_add_16 rfl ?_
  obtain ⟨g8, h⟩ := gd_e h
  refine gx_get (t := 21) (k := 2) (v := J (s5 a0 2)) 17 cw21 (by decide) g8 q220 same_f rfl dJ2_add_17 ?_
  obtain ⟨g10, h⟩ := gd_e h
  obtain ⟨z9, ez9, h⟩ := opt_e h
  refine gx_callV (As := [.ref (ad x0 a1), .ref (ad x0 (s5 a0 1)), J (s5 a0 2)]) (rest := []) (st' := []) 20 3 cw21 g10 (mj2_add_2 ez9 l) (lw_V q920 q922 qs17 q151 q923) (by decide +kernel) (by decide) rfl rfl (Nat.le_of_ble_eq_true rfl) dJ2_add_20 rfl ?_
  refine gx_iconst 23 dJ2_add_23 ?_
  exact gx_zret 24 dJ2_add_24 (by decide) (rt h)
/-! java/lang/AbstractStringBuilder.init -/
noncomputable def j14_init (b : Bool) (a0 : Int) (a1 : Int) (s0 : XS) : Option (Int × XS) :=
  if i32 1 = 0 then
    none
  else
    gd (0 ≤ s0 (-1) 0 ∧ 0 ≤ s0 (-1) 1) <|
    gd (0 ≤ i32 a1 ∧ i32 a1 < 1000000) <|
    bnd (nwx s0 102 (i32 a1) (i32 a1) (fun _ => 0)) fun s5 =>
    gd (tg b s5 a0 = 23) <|
    gd (0 ≤ a0 ∧ ¬ (1438 ≤ a0 ∧ a0 < 1514)) <|
    gd (¬ (s0 (-1) 0) = -1) <|
    bnd (ux s5 a0 0 (s0 (-1) 0)) fun s9 =>
    gd (tg b s9 a0 = 23) <|
    gd (0 ≤ a0 ∧ ¬ (1438 ≤ a0 ∧ a0 < 1514)) <|
    gd (i8 0 = i32 0) <|
    bnd (ux s9 a0 1 0) fun s13 =>
    some (0, s13)
theorem mj14_init {b : Bool} {x0 : Nat} {D : XD} {a0 : Int} {a1 : Int} {s0 : XS} {res : Int × XS} (h : j14_init b a0 a1 s0 = some res) (l : Launch) : XMet0 l yJ14_init cJ14_init 2 none 2 b x0 D [.ref (ad x0 a0), J a1] s0 0 res := by
  refine XMet0.ofn [(0, .ref (ad x0 a0)), (1, J a1)] "java/lang/AbstractStringBuilder" "<init>" rfl rfl (plainFor_of_name (by decide)) (Nat.le_of_ble_eq_true rfl) rfl ?_
  unfold j14_init at h
  generalize nC s0 = cN
  generalize nS s0 = sN
  refine gx_aload_n 0 0 dJ14_init_0 rfl ?_
  refine gx_objInit 1 q1101 q195 q196 dJ14_init_1 (by decide) (Nat.le_of_ble_eq_true rfl) ?_
  refine gx_getsJ (v := 1) 4 (List.mem_of_getElem? (i := 0) rfl) q1102 dJ14_init_4 ?_
  refine gx_if_eq 7 25 dJ14_init_7 (by decide) (fun c2 => ?_) (fun c2 => ?_)
  · replace h := if_t h c2
    refine gx_aload_n 25 0 dJ14_init_25 rfl ?_
    refine gx_iload_n 26 1 dJ14_init_26 rfl ?_
    cases h
  · replace h := if_f h c2
    refine gx_aload_n 10 0 dJ14_init_10 rfl ?_
    refine gx_iload_n 11 1 dJ14_init_11 rfl ?_
    obtain ⟨g3, h⟩ := gd_e h
    obtain ⟨g4, h⟩ := gd_e h
    obtain ⟨s5, es5, h⟩ := bnd_e h
    refine gx_newarr (t := 102) (atype := .byte) 12 g3 (by decide) (by decide) g4 q351 (by decide) (fun _ _ h => h) (fun _ _ => rfl) es5 dJ14_init_12 ?_
    obtain ⟨g6, h⟩ := gd_e h
    obtain ⟨g7, h⟩ := gd_e h
    obtain ⟨g8, h⟩ := gd_e h
    obtain ⟨s9, es9, h⟩ := bnd_e h
    refine gx_put (t := 23) (k := 0) (x := (s0 (-1) 0)) (ty := (.array .byte)) 14 cw23 (by decide) g6 g7.1 g7.2 q1104 same_f rfl (by decide +kernel) (refOk rfl _).1 (refOk rfl _).2 ((congrArg (rf x0) (ux_s _ _ _ _)).trans (rf_ne g8)) es9 dJ14_init_14 ?_
    refine gx_aload_n 17 0 dJ14_init_17 rfl ?_
    refine gx_iconst 18 dJ14_init_18 ?_
    obtain ⟨g10, h⟩ := gd_e h
    obtain ⟨g11, h⟩ := gd_e h
    obtain ⟨g12, h⟩ := gd_e h
    obtain ⟨s13, es13, h⟩ := bnd_e h
    refine gx_put (t := 23) (k := 1) (x := 0) (ty := .byte) 19 cw23 (by decide) g10 g11.1 g11.2 q1105 same_f rfl (by decide +kernel) (by_narrow g12) (by_fits g12) (congrArg J (ux_s _ _ _ _)) es13 dJ14_init_19 ?_
    refine gx_goto 22 38 dJ14_init_22 (by decide) ?_
    exact gx_vret 38 dJ14_init_38 (rt h)
/-! java/lang/StringBuilder.init -/
noncomputable def j15_init (b : Bool) (a0 : Int) (s0 : XS) : Option (Int × XS) :=
  Option.bind (j14_init b a0 16 s0) fun z1 =>
  some (0, z1.2)
theorem mj15_init {b : Bool} {x0 : Nat} {D : XD} {a0 : Int} {s0 : XS} {res : Int × XS} (h : j15_init b a0 s0 = some res) (l : Launch) : XMet0 l yJ15_init cJ15_init 1 none 3 b x0 D [.ref (ad x0 a0)] s0 0 res := by
  refine XMet0.ofn [(0, .ref (ad x0 a0))] "java/lang/StringBuilder" "<init>" rfl rfl (plainFor_of_name (by decide)) (Nat.le_of_ble_eq_true rfl) rfl ?_
  unfold j15_init at h
  generalize nC s0 = cN
  generalize nS s0 = sN
  refine gx_aload_n 0 0 dJ15_init_0 rfl ?_
  refine gx_bipush 1 dJ15_init_1 (by decide) ?_
  obtain ⟨z1, ez1, h⟩ := opt_e h
  refine gx_callI (As := [J 16]) (rest := []) 3 1 (mj14_init ez1 l) q1100 q180 q1098 q1099 rfl (by decide +kernel) (by decide) rfl rfl (Nat.le_of_ble_eq_true rfl) dJ15_init_3 ?_
  exact gx_vret 6 dJ15_init_6 (rt h)
/-! java/lang/AbstractStringBuilder.newCapacity -/
noncomputable def j14_newCapacity (b : Bool) (a0 : Int) (a1 : Int) (s0 : XS) : Option (Int × XS) :=
  gd (tg b s0 a0 = 23) <|
  gd (¬ (s0 a0 0) = -1) <|
  gd (tg b s0 (s0 a0 0) = 102) <|
  bnd (ln b s0 (s0 a0 0)) fun x2_5 =>
  gd (tg b s0 a0 = 23) <|
  bnd (ishl a1 (s0 a0 1)) fun x3_7 =>
  bnd (x3_7 - x2_5) fun x4_8 =>
  gd (tg b s0 a0 = 23) <|
  Option.bind (j10_newLength b x2_5 x4_8 (x2_5 + (ishl 2 (s0 a0 1))) s0) fun z10 =>
  bnd z10.1 fun x5_11 =>
  if i32 x5_11 = i32 2147483647 then
    none
  else
    gd (tg b z10.2 a0 = 23) <|
    some ((ishr x5_11 (z10.2 a0 1)), z10.2)
theorem mj14_newCapacity {b : Bool} {x0 : Nat} {D : XD} {a0 : Int} {a1 : Int} {s0 : XS} {res : Int × XS} (h : j14_newCapacity b a0 a1 s0 = some res) (l : Launch) : XMet0 l yJ14_newCapacity cJ14_newCapacity 6 (some .int) 3 b x0 D [.ref (ad x0 a0), J a1] s0 1 res := by
  refine XMet0.ofn [(0, .ref (ad x0 a0)), (1, J a1)] "java/lang/AbstractStringBuilder" "newCapacity" rfl rfl (plainFor_of_name (by decide)) (Nat.le_of_ble_eq_true rfl) rfl ?_
  unfold j14_newCapacity at h
  generalize nC s0 = cN
  generalize nS s0 = sN
  refine gx_aload_n 0 0 dJ14_newCapacity_0 rfl ?_
  obtain ⟨g2, h⟩ := gd_e h
  obtain ⟨g3, h⟩ := gd_e h
  refine gx_get (t := 23) (k := 0) (v := .ref (ad x0 (s0 a0 0))) 1 cw23 (by decide) g2 q1104 same_f (rf_ne g3) dJ14_newCapacity_1 ?_
  obtain ⟨g4, h⟩ := gd_e h
  refine gx_alen (t := 102) (ty := .byte) 4 (by decide) (by decide) g4 dJ14_newCapacity_4 ?_
  obtain ⟨x2_5, ex2_5, h⟩ := bnd_e h
  refine gx_istore_n 5 [(2, J x2_5), (0, .ref (ad x0 a0)), (1, J a1)] dJ14_newCapacity_5 (by decide) ex2_5 rfl ?_
  refine gx_iload_n 6 2 dJ14_newCapacity_6 rfl ?_
  refine gx_aload_n 7 1 dJ14_newCapacity_7 rfl ?_
  obtain ⟨g6, h⟩ := gd_e h
  refine gx_get (t := 23) (k := 1) (v := J (s0 a0 1)) 8 cw23 (by decide) g6 q1105 same_f rfl dJ14_newCapacity_8 ?_
  refine gx_ishl 11 dJ14_newCapacity_11 ?_
  obtain ⟨x3_7, ex3_7, h⟩ := bnd_e h
  refine gx_istore_n 12 [(3, J x3_7), (2, J x2_5), (0, .ref (ad x0 a0)), (1, J a1)] dJ14_newCapacity_12 (by decide) ex3_7 rfl ?_
  refine gx_iload_n 13 0 dJ14_newCapacity_13 rfl ?_
  refine gx_iload_n 14 1 dJ14_newCapacity_14 rfl ?_
  refine gx_isub 15 dJ14_newCapacity_15 ?_
  obtain ⟨x4_8, ex4_8, h⟩ := bnd_e h
  refine gx_istore 16 [(4, J x4_8), (3, J x3_7), (2, J x2_5), (0, .ref (ad x0 a0)), (1, J a1)] dJ14_newCapacity_16 (by decide) ex4_8 rfl ?_
  refine gx_iload_n 18 2 dJ14_newCapacity_18 rfl ?_
  refine gx_iload 19 0 dJ14_newCapacity_19 rfl ?_
  refine gx_iload_n 21 2 dJ14_newCapacity_21 rfl ?_
  refine gx_iconst 22 dJ14_newCapacity_22 ?_
  refine gx_aload_n 23 3 dJ14_newCapacity_23 rfl ?_
  obtain ⟨g9, h⟩ := gd_e h
  refine gx_get (t := 23) (k := 1) (v := J (s0 a0 1)) 24 cw23 (by decide) g9 q1105 same_f rfl dJ14_newCapacity_24 ?_
  refine gx_ishl 27 dJ14_newCapacity_27 ?_
  refine gx_iadd 28 dJ14_newCapacity_28 ?_
  obtain ⟨z10, ez10, h⟩ := opt_e h
  refine gx_callS (As := [J x2_5, J x4_8, J (x2_5 + (ishl 2 (s0 a0 1)))]) (rest := []) (st' := [J z10.1]) 29 3 (mj10_newLength ez10 l) (lw_S q1216 q935 q166 q936) (by decide +kernel) (by decide) rfl rfl (Nat.le_of_ble_eq_true rfl) dJ14_newCapacity_29 rfl ?_
  obtain ⟨x5_11, ex5_11, h⟩ := bnd_e h
  refine gx_istore 32 [(5, J x5_11), (4, J x4_8), (3, J x3_7), (2, J x2_5), (0, .ref (ad x0 a0)), (1, J a1)] dJ14_newCapacity_32 (by decide) ex5_11 rfl ?_
  refine gx_iload 34 0 dJ14_newCapacity_34 rfl ?_
  refine gx_ldc (v := 2147483647) 36 dJ14_newCapacity_36 q1217 (by decide) ?_
  refine gx_icmp_ne 38 51 dJ14_newCapacity_38 (by decide) (fun c12 => ?_) (fun c12 => ?_)
  · replace h := if_f h c12
    refine gx_iload 51 0 dJ14_newCapacity_51 rfl ?_
    refine gx_aload_n 53 4 dJ14_newCapacity_53 rfl ?_
    obtain ⟨g13, h⟩ := gd_e h
    refine gx_get (t := 23) (k := 1) (v := J (z10.2 a0 1)) 54 cw23 (by decide) g13 q1105 same_f rfl dJ14_newCapacity_54 ?_
    refine gx_ishr 57 dJ14_newCapacity_57 ?_
    exact gx_iret 58 dJ14_newCapacity_58 (rt h)
  · replace h := if_t h c12
    cases h
/-! java/util/Arrays.copyOf_3 -/
noncomputable def j13_copyOf_3 (b : Bool) (a1 : Int) (a2 : Int) (s0 : XS) : Option (Int × XS) :=
  gd (tg b s0 a1 = 102) <|
  if i32 a2 = i32 (ln b s0 a1) then
    none
  else
    gd (0 ≤ s0 (-1) 0 ∧ 0 ≤ s0 (-1) 1) <|
    gd (0 ≤ i32 a2 ∧ i32 a2 < 1000000) <|
    bnd (nwx s0 102 (i32 a2) (i32 a2) (fun _ => 0)) fun s7 =>
    bnd (s0 (-1) 0) fun x2_8 =>
    gd (tg b s7 a1 = 102) <|
    Option.bind (j12_min b (ln b s7 a1) a2 s7) fun z10 =>
    gd (tg b z10.2 a1 = 102) <|
    gd (tg b z10.2 x2_8 = 102) <|
    gd (0 ≤ x2_8 ∧ ¬ (1438 ≤ x2_8 ∧ x2_8 < 1514)) <|
    gd ((0 ≤ i32 0 ∧ 0 ≤ i32 0 ∧ 0 ≤ i32 z10.1) ∧ i32 0 + i32 z10.1 ≤ ln b z10.2 a1 ∧ i32 0 + i32 z10.1 ≤ ln b z10.2 x2_8) <|
    gd (∀ i : Nat, i < (i32 z10.1).toNat → i8 (z10.2 a1 (i32 0 + (i : Int))) = i32 (z10.2 a1 (i32 0 + (i : Int)))) <|
    bnd (cpx z10.2 a1 (i32 0) x2_8 (i32 0) (i32 z10.1)) fun s16 =>
    some (x2_8, s16)
theorem mj13_copyOf_3 {b : Bool} {x0 : Nat} {D : XD} {a1 : Int} {a2 : Int} {s0 : XS} {res : Int × XS} (h : j13_copyOf_3 b a1 a2 s0 = some res) (l : Launch) : XMet0 l yJ13_copyOf_3 cJ13_copyOf_3 3 (some (.array .byte)) 2 b x0 D [.ref (ad x0 a1), J a2] s0 3 res := by
  refine XMet0.ofn [(0, .ref (ad x0 a1)), (1, J a2)] "java/util/Arrays" "copyOf" rfl rfl (plainFor_of_name (by decide)) (Nat.le_of_ble_eq_true rfl) rfl ?_
  unfold j13_copyOf_3 at h
  generalize nC s0 = cN
  generalize nS s0 = sN
  refine gx_iload_n 0 1 dJ13_copyOf_3_0 rfl ?_
  refine gx_aload_n 1 0 dJ13_copyOf_3_1 rfl ?_
  obtain ⟨g3, h⟩ := gd_e h
  refine gx_alen (t := 102) (ty := .byte) 2 (by decide) (by decide) g3 dJ13_copyOf_3_2 ?_
  refine gx_icmp_ne 3 14 dJ13_copyOf_3_3 (by decide) (fun c4 => ?_) (fun c4 => ?_)
  · replace h := if_f h c4
    refine gx_iload_n 14 1 dJ13_copyOf_3_14 rfl ?_
    obtain ⟨g5, h⟩ := gd_e h
    obtain ⟨g6, h⟩ := gd_e h
    obtain ⟨s7, es7, h⟩ := bnd_e h
    refine gx_newarr (t := 102) (atype := .byte) 15 g5 (by decide) (by decide) g6 q351 (by decide) (fun _ _ h => h) (fun _ _ => rfl) es7 dJ13_copyOf_3_15 ?_
    obtain ⟨x2_8, ex2_8, h⟩ := bnd_e h
    refine gx_astore_nv 17 [(2, .ref (ad x0 x2_8)), (0, .ref (ad x0 a1)), (1, J a2)] dJ13_copyOf_3_17 (by decide) ex2_8 rfl ?_
    refine gx_aload_n 18 1 dJ13_copyOf_3_18 rfl ?_
    refine gx_iconst 19 dJ13_copyOf_3_19 ?_
    refine gx_aload_n 20 0 dJ13_copyOf_3_20 rfl ?_
    refine gx_iconst 21 dJ13_copyOf_3_21 ?_
    refine gx_aload_n 22 1 dJ13_copyOf_3_22 rfl ?_
    obtain ⟨g9, h⟩ := gd_e h
    refine gx_alen (t := 102) (ty := .byte) 23 (by decide) (by decide) g9 dJ13_copyOf_3_23 ?_
    refine gx_iload_n 24 2 dJ13_copyOf_3_24 rfl ?_
    obtain ⟨z10, ez10, h⟩ := opt_e h
    refine gx_callS (As := [J (ln b s7 a1), J a2]) (rest := [J 0, .ref (ad x0 x2_8), J 0, .ref (ad x0 a1)]) (st' := [J z10.1, J 0, .ref (ad x0 x2_8), J 0, .ref (ad x0 a1)]) 25 2 (mj12_min ez10 l) (lw_S q981 q982 q170 q983) (by decide +kernel) (by decide) rfl rfl (Nat.le_of_ble_eq_true rfl) dJ13_copyOf_3_25 rfl ?_
    obtain ⟨g11, h⟩ := gd_e h
    obtain ⟨g12, h⟩ := gd_e h
    obtain ⟨g13, h⟩ := gd_e h
    obtain ⟨g14, h⟩ := gd_e h
    obtain ⟨g15, h⟩ := gd_e h
    obtain ⟨s16, es16, h⟩ := bnd_e h
    refine gx_copyB 28 g11 g12 g13.1 g13.2 g14 g15 q984 q986 q985 q172 (by decide) (Nat.le_of_ble_eq_true rfl) es16 dJ13_copyOf_3_28 ?_
    refine gx_aload_n 31 0 dJ13_copyOf_3_31 rfl ?_
    exact gx_aret 32 (Or.inr ⟨_, rfl⟩) dJ13_copyOf_3_32 (rt h)
  · replace h := if_t h c4
    refine gx_aload_n 6 0 dJ13_copyOf_3_6 rfl ?_
    cases h
/-! java/lang/AbstractStringBuilder.ensureCapacityInternal -/
noncomputable def j14_ensureCapacityInternal (b : Bool) (a0 : Int) (a1 : Int) (s0 : XS) : Option (Int × XS) :=
  gd (tg b s0 a0 = 23) <|
  gd (¬ (s0 a0 0) = -1) <|
  gd (tg b s0 (s0 a0 0) = 102) <|
  gd (tg b s0 a0 = 23) <|
  bnd (ishr (ln b s0 (s0 a0 0)) (s0 a0 1)) fun x2_6 =>
  if i32 (a1 - x2_6) ≤ 0 then
    some (0, s0)
  else
    gd (tg b s0 a0 = 23) <|
    gd (¬ (s0 a0 0) = -1) <|
    gd (tg b s0 a0 = 23) <|
    Option.bind (j14_newCapacity b a0 a1 s0) fun z10 =>
    gd (tg b z10.2 a0 = 23) <|
    Option.bind (j13_copyOf_3 b (s0 a0 0) (ishl z10.1 (z10.2 a0 1)) z10.2) fun z13 =>
    gd (tg b z13.2 a0 = 23) <|
    gd (0 ≤ a0 ∧ ¬ (1438 ≤ a0 ∧ a0 < 1514)) <|
    gd (¬ z13.1 = -1) <|
    bnd (ux z13.2 a0 0 z13.1) fun s17 =>
    some (0, s17)
theorem mj14_ensureCapacityInternal {b : Bool} {x0 : Nat} {D : XD} {a0 : Int} {a1 : Int} {s0 : XS} {res : Int × XS} (h : j14_ensureCapacityInternal b a0 a1 s0 = some res) (l : Launch) : XMet0 l yJ14_ensureCapacityInternal cJ14_ensureCapacityInternal 3 none 4 b x0 D [.ref (ad x0 a0), J a1] s0 0 res := by
  refine XMet0.ofn [(0, .ref (ad x0 a0)), (1, J a1)] "java/lang/AbstractStringBuilder" "ensureCapacityInternal" rfl rfl (plainFor_of_name (by decide)) (Nat.le_of_ble_eq_true rfl) rfl ?_
  unfold j14_ensureCapacityInternal at h
  generalize nC s0 = cN
  generalize nS s0 = sN
  refine gx_aload_n 0 0 dJ14_ensureCapacityInternal_0 rfl ?_
  obtain ⟨g2, h⟩ := gd_e h
  obtain ⟨g3, h⟩ := gd_e h
  refine gx_get (t := 23) (k := 0) (v := .ref (ad x0 (s0 a0 0))) 1 cw23 (by decide) g2 q1104 same_f (rf_ne g3) dJ14_ensureCapacityInternal_1 ?_
  obtain ⟨g4, h⟩ := gd_e h
  refine gx_alen (t := 102) (ty := .byte) 4 (by decide) (by decide) g4 dJ14_ensureCapacityInternal_4 ?_
  refine gx_aload_n 5 0 dJ14_ensureCapacityInternal_5 rfl ?_
  obtain ⟨g5, h⟩ := gd_e h
  refine gx_get (t := 23) (k := 1) (v := J (s0 a0 1)) 6 cw23 (by decide) g5 q1105 same_f rfl dJ14_ensureCapacityInternal_6 ?_
  refine gx_ishr 9 dJ14_ensureCapacityInternal_9 ?_
  obtain ⟨x2_6, ex2_6, h⟩ := bnd_e h
  refine gx_istore_n 10 [(2, J x2_6), (0, .ref (ad x0 a0)), (1, J a1)] dJ14_ensureCapacityInternal_10 (by decide) ex2_6 rfl ?_
  refine gx_iload_n 11 2 dJ14_ensureCapacityInternal_11 rfl ?_
  refine gx_iload_n 12 0 dJ14_ensureCapacityInternal_12 rfl ?_
  refine gx_isub 13 dJ14_ensureCapacityInternal_13 ?_
  refine gx_if_le 14 38 dJ14_ensureCapacityInternal_14 (by decide) (fun c7 => ?_) (fun c7 => ?_)
  · replace h := if_t h c7
    exact gx_vret 38 dJ14_ensureCapacityInternal_38 (rt h)
  · replace h := if_f h c7
    refine gx_aload_n 17 1 dJ14_ensureCapacityInternal_17 rfl ?_
    refine gx_aload_n 18 1 dJ14_ensureCapacityInternal_18 rfl ?_
    obtain ⟨g8, h⟩ := gd_e h
    obtain ⟨g9, h⟩ := gd_e h
    refine gx_get (t := 23) (k := 0) (v := .ref (ad x0 (s0 a0 0))) 19 cw23 (by decide) g8 q1104 same_f (rf_ne g9) dJ14_ensureCapacityInternal_19 ?_
    refine gx_aload_n 22 1 dJ14_ensureCapacityInternal_22 rfl ?_
    refine gx_iload_n 23 2 dJ14_ensureCapacityInternal_23 rfl ?_
    obtain ⟨g11, h⟩ := gd_e h
    obtain ⟨z10, ez10, h⟩ := opt_e h
    refine gx_callP (y2 := ⟨"java/lang/AbstractStringBuilder", "isLatin1", "()Z"⟩) (As := [J a1]) (rest := [.ref (ad x0 (s0 a0 0)), .ref (ad x0 a0)]) (st' := [J z10.1, .ref (ad x0 (s0 a0 0)), .ref (ad x0 a0)]) 24 1 cw23 g11 (mj14_newCapacity ez10 l) q1212 q2626 (fun _ h => h.2.2.2.2.2.2.2.2.2.2.2.1) q1214 q180 q1215 rfl q1231 (by decide +kernel) (by decide) rfl rfl (Nat.le_of_ble_eq_true rfl) dJ14_ensureCapacityInternal_24 rfl ?_
    refine gx_aload_n 27 1 dJ14_ensureCapacityInternal_27 rfl ?_
    obtain ⟨g12, h⟩ := gd_e h
    refine gx_get (t := 23) (k := 1) (v := J (z10.2 a0 1)) 28 cw23 (by decide) g12 q1105 same_f rfl dJ14_ensureCapacityInternal_28 ?_
    refine gx_ishl 31 dJ14_ensureCapacityInternal_31 ?_
    obtain ⟨z13, ez13, h⟩ := opt_e h
    refine gx_callS (As := [.ref (ad x0 (s0 a0 0)), J (ishl z10.1 (z10.2 a0 1))]) (rest := [.ref (ad x0 a0)]) (st' := [.ref (ad x0 z13.1), .ref (ad x0 a0)]) 32 2 (mj13_copyOf_3 ez13 l) (lw_S q1218 q1219 q171 q1220) (by decide +kernel) (by decide) rfl rfl (Nat.le_of_ble_eq_true rfl) dJ14_ensureCapacityInternal_32 rfl ?_
    obtain ⟨g14, h⟩ := gd_e h
    obtain ⟨g15, h⟩ := gd_e h
    obtain ⟨g16, h⟩ := gd_e h
    obtain ⟨s17, es17, h⟩ := bnd_e h
    refine gx_put (t := 23) (k := 0) (x := z13.1) (ty := (.array .byte)) 35 cw23 (by decide) g14 g15.1 g15.2 q1104 same_f rfl (by decide +kernel) (refOk rfl _).1 (refOk rfl _).2 ((congrArg (rf x0) (ux_s _ _ _ _)).trans (rf_ne g16)) es17 dJ14_ensureCapacityInternal_35 ?_
    exact gx_vret 38 dJ14_ensureCapacityInternal_38 (rt h)
/-! java/lang/AbstractStringBuilder.isLatin1 -/
noncomputable def j14_isLatin1 (b : Bool) (a0 : Int) (s0 : XS) : Option (Int × XS) :=
  if i32 1 = 0 then
    some (0, s0)
  else
    gd (tg b s0 a0 = 23) <|
    if i32 (s0 a0 1) = 0 then
      some (1, s0)
    else
      some (0, s0)
theorem mj14_isLatin1 {b : Bool} {x0 : Nat} {D : XD} {a0 : Int} {s0 : XS} {res : Int × XS} (h : j14_isLatin1 b a0 s0 = some res) (l : Launch) : XMet0 l yJ14_isLatin1 cJ14_isLatin1 1 (some .boolean) 1 b x0 D [.ref (ad x0 a0)] s0 1 res := by
  refine XMet0.ofn [(0, .ref (ad x0 a0))] "java/lang/AbstractStringBuilder" "isLatin1" rfl rfl (plainFor_of_name (by decide)) (Nat.le_of_ble_eq_true rfl) rfl ?_
  unfold j14_isLatin1 at h
  generalize nC s0 = cN
  generalize nS s0 = sN
  refine gx_getsJ (v := 1) 0 (List.mem_of_getElem? (i := 0) rfl) q1102 dJ14_isLatin1_0 ?_
  refine gx_if_eq 3 17 dJ14_isLatin1_3 (by decide) (fun c1 => ?_) (fun c1 => ?_)
  · replace h := if_t h c1
    refine gx_iconst 17 dJ14_isLatin1_17 ?_
    exact gx_zret 18 dJ14_isLatin1_18 (by decide) (rt h)
  · replace h := if_f h c1
    refine gx_aload_n 6 0 dJ14_isLatin1_6 rfl ?_
    obtain ⟨g2, h⟩ := gd_e h
    refine gx_get (t := 23) (k := 1) (v := J (s0 a0 1)) 7 cw23 (by decide) g2 q1105 same_f rfl dJ14_isLatin1_7 ?_
    refine gx_if_ne 10 17 dJ14_isLatin1_10 (by decide) (fun c3 => ?_) (fun c3 => ?_)
    · replace h := if_f h c3
      refine gx_iconst 17 dJ14_isLatin1_17 ?_
      exact gx_zret 18 dJ14_isLatin1_18 (by decide) (rt h)
    · replace h := if_t h c3
      refine gx_iconst 13 dJ14_isLatin1_13 ?_
      refine gx_goto 14 18 dJ14_isLatin1_14 (by decide) ?_
      exact gx_zret 18 dJ14_isLatin1_18 (by decide) (rt h)
/-! java/lang/StringLatin1.canEncode -/
noncomputable def j9_canEncode (b : Bool) (a1 : Int) (s0 : XS) : Option (Int × XS) :=
  if i32 255 < i32 a1 then
    some (0, s0)
  else
    some (1, s0)
theorem mj9_canEncode {b : Bool} {x0 : Nat} {D : XD} {a1 : Int} {s0 : XS} {res : Int × XS} (h : j9_canEncode b a1 s0 = some res) (l : Launch) : XMet0 l yJ9_canEncode cJ9_canEncode 1 (some .boolean) 1 b x0 D [J a1] s0 1 res := by
  refine XMet0.ofn [(0, J a1)] "java/lang/StringLatin1" "canEncode" rfl rfl (plainFor_of_name (by decide)) (Nat.le_of_ble_eq_true rfl) rfl ?_
  unfold j9_canEncode at h
  generalize nC s0 = cN
  generalize nS s0 = sN
  refine gx_iload_n 0 0 dJ9_canEncode_0 rfl ?_
  refine gx_sipush 1 dJ9_canEncode_1 (by decide) ?_
  refine gx_icmp_gt 4 11 dJ9_canEncode_4 (by decide) (fun c2 => ?_) (fun c2 => ?_)
  · replace h := if_t h c2
    refine gx_iconst 11 dJ9_canEncode_11 ?_
    exact gx_zret 12 dJ9_canEncode_12 (by decide) (rt h)
  · replace h := if_f h c2
    refine gx_iconst 7 dJ9_canEncode_7 ?_
    refine gx_goto 8 12 dJ9_canEncode_8 (by decide) ?_
    exact gx_zret 12 dJ9_canEncode_12 (by decide) (rt h)
/-! java/lang/AbstractStringBuilder.append -/
noncomputable def j14_append (b : Bool) (a0 : Int) (a1 : Int) (s0 : XS) : Option (Int × XS) :=
  gd (tg b s0 a0 = 23) <|
  gd (tg b s0 a0 = 23) <|
  Option.bind (j14_ensureCapacityInternal b a0 ((s0 a0 3) + 1) s0) fun z3 =>
  gd (tg b z3.2 a0 = 23) <|
  Option.bind (j14_isLatin1 b a0 z3.2) fun z5 =>
  bnd (fun (s7 : XS) =>
      some (a0, s7)) fun j8 =>
  bnd (fun (x1_9 : Int) (s10 : XS) =>
      gd (tg b s10 a0 = 23) <|
      Option.bind (j14_isLatin1 b a0 s10) fun z11 =>
      bnd (fun (x1_13 : Int) (s14 : XS) =>
          gd (tg b s14 a0 = 23) <|
          gd (¬ (s14 a0 0) = -1) <|
          gd (tg b s14 a0 = 23) <|
          gd (tg b s14 a0 = 23) <|
          gd (0 ≤ a0 ∧ ¬ (1438 ≤ a0 ∧ a0 < 1514)) <|
          bnd (ux s14 a0 3 ((s14 a0 3) + 1)) fun s20 =>
          none) fun j21 =>
      if i32 z11.1 = 0 then
        j21 x1_9 z11.2
      else
        none) fun j23 =>
  if i32 z5.1 = 0 then
    j23 a1 z5.2
  else
    Option.bind (j9_canEncode b a1 z5.2) fun z25 =>
    if i32 z25.1 = 0 then
      j23 a1 z25.2
    else
      gd (tg b z25.2 a0 = 23) <|
      gd (¬ (z25.2 a0 0) = -1) <|
      gd (tg b z25.2 a0 = 23) <|
      gd (tg b z25.2 a0 = 23) <|
      gd (0 ≤ a0 ∧ ¬ (1438 ≤ a0 ∧ a0 < 1514)) <|
      bnd (ux z25.2 a0 3 ((z25.2 a0 3) + 1)) fun s32 =>
      gd (tg b s32 (z25.2 a0 0) = 102) <|
      gd (0 ≤ (z25.2 a0 0) ∧ ¬ (1438 ≤ (z25.2 a0 0) ∧ (z25.2 a0 0) < 1514)) <|
      gd (ok (ln b s32 (z25.2 a0 0)) (z25.2 a0 3)) <|
      bnd (ux s32 (z25.2 a0 0) (i32 (z25.2 a0 3)) (i8 (i8 a1))) fun s36 =>
      j8 s36
theorem mj14_append {b : Bool} {x0 : Nat} {D : XD} {a0 : Int} {a1 : Int} {s0 : XS} {res : Int × XS} (h : j14_append b a0 a1 s0 = some res) (l : Launch) : XMet0 l yJ14_append cJ14_append 2 (some (.object "java/lang/AbstractStringBuilder")) 5 b x0 D [.ref (ad x0 a0), J a1] s0 3 res := by
  refine XMet0.ofn [(0, .ref (ad x0 a0)), (1, J a1)] "java/lang/AbstractStringBuilder" "append" rfl rfl (plainFor_of_name (by decide)) (Nat.le_of_ble_eq_true rfl) rfl ?_
  unfold j14_append at h
  generalize nC s0 = cN
  generalize nS s0 = sN
  refine gx_aload_n 0 0 dJ14_append_0 rfl ?_
  refine gx_aload_n 1 0 dJ14_append_1 rfl ?_
  obtain ⟨g2, h⟩ := gd_e h
  refine gx_get (t := 23) (k := 3) (v := J (s0 a0 3)) 2 cw23 (by decide) g2 q1106 same_f rfl dJ14_append_2 ?_
  refine gx_iconst 5 dJ14_append_5 ?_
  refine gx_iadd 6 dJ14_append_6 ?_
  obtain ⟨g4, h⟩ := gd_e h
  obtain ⟨z3, ez3, h⟩ := opt_e h
  refine gx_callP (y2 := ⟨"java/lang/AbstractStringBuilder", "isLatin1", "()Z"⟩) (As := [J ((s0 a0 3) + 1)]) (rest := []) (st' := []) 7 1 cw23 g4 (mj14_ensureCapacityInternal ez3 l) q1208 q2625 (fun _ h => h.2.2.2.2.2.2.2.2.2.2.2.2) q1210 q180 q1211 rfl q1231 (by decide +kernel) (by decide) rfl rfl (Nat.le_of_ble_eq_true rfl) dJ14_append_7 rfl ?_
  refine gx_aload_n 10 0 dJ14_append_10 rfl ?_
  obtain ⟨g6, h⟩ := gd_e h
  obtain ⟨z5, ez5, h⟩ := opt_e h
  refine gx_callO (As := []) (rest := []) (st' := [J z5.1]) 11 0 cw23 g6 (mj14_isLatin1 ez5 l) (lw_app (lw_in6 q1228 q1230 q1229 q1231 q1229 q180) (lw_meth q1232)) (by decide +kernel) (by decide) rfl rfl (Nat.le_of_ble_eq_true rfl) dJ14_append_11 rfl ?_
  obtain ⟨j8, ej8, h⟩ := bnd_e h
  have hj8 : ∀ (s7 : XS), j8 s7 = some res → GX l cJ14_append "java/lang/AbstractStringBuilder" 2 (some (.object "java/lang/AbstractStringBuilder")) "append" [] x0 D b 3 5 cN sN (0, res) s7 75 [(0, .ref (ad x0 a0))] [] := by
    clear h
    intro s7 h
    subst ej8
    refine gx_aload_n 75 0 dJ14_append_75 rfl ?_
    exact gx_aret 76 (Or.inl ⟨_, rfl⟩) dJ14_append_76 (rt h)
  obtain ⟨j23, ej23, h⟩ := bnd_e h
  have hj23 : ∀ (x1_9 : Int) (s10 : XS), j23 x1_9 s10 = some res → GX l cJ14_append "java/lang/AbstractStringBuilder" 2 (some (.object "java/lang/AbstractStringBuilder")) "append" [] x0 D b 3 5 cN sN (0, res) s10 45 [(0, .ref (ad x0 a0)), (1, J x1_9)] [] := by
    clear h
    intro x1_9 s10 h
    subst ej23
    refine gx_aload_n 45 0 dJ14_append_45 rfl ?_
    obtain ⟨g12, h⟩ := gd_e h
    obtain ⟨z11, ez11, h⟩ := opt_e h
    refine gx_callO (As := []) (rest := []) (st' := [J z11.1]) 46 0 cw23 g12 (mj14_isLatin1 ez11 l) (lw_app (lw_in6 q1228 q1230 q1229 q1231 q1229 q180) (lw_meth q1232)) (by decide +kernel) (by decide) rfl rfl (Nat.le_of_ble_eq_true rfl) dJ14_append_46 rfl ?_
    obtain ⟨j21, ej21, h⟩ := bnd_e h
    have hj21 : ∀ (x1_13 : Int) (s14 : XS), j21 x1_13 s14 = some res → GX l cJ14_append "java/lang/AbstractStringBuilder" 2 (some (.object "java/lang/AbstractStringBuilder")) "append" [] x0 D b 3 5 cN sN (0, res) s14 56 [(0, .ref (ad x0 a0)), (1, J x1_13)] [] := by
      clear h
      intro x1_13 s14 h
      subst ej21
      refine gx_aload_n 56 0 dJ14_append_56 rfl ?_
      obtain ⟨g15, h⟩ := gd_e h
      obtain ⟨g16, h⟩ := gd_e h
      refine gx_get (t := 23) (k := 0) (v := .ref (ad x0 (s14 a0 0))) 57 cw23 (by decide) g15 q1104 same_f (rf_ne g16) dJ14_append_57 ?_
      refine gx_aload_n 60 0 dJ14_append_60 rfl ?_
      refine gx_dup 61 dJ14_append_61 rfl ?_
      obtain ⟨g17, h⟩ := gd_e h
      refine gx_get (t := 23) (k := 3) (v := J (s14 a0 3)) 62 cw23 (by decide) g17 q1106 same_f rfl dJ14_append_62 ?_
      refine gx_dup_x1 65 dJ14_append_65 rfl rfl ?_
      refine gx_iconst 66 dJ14_append_66 ?_
      refine gx_iadd 67 dJ14_append_67 ?_
      obtain ⟨g18, h⟩ := gd_e h
      obtain ⟨g19, h⟩ := gd_e h
      obtain ⟨s20, es20, h⟩ := bnd_e h
      refine gx_put (t := 23) (k := 3) (x := ((s14 a0 3) + 1)) (ty := .int) 68 cw23 (by decide) g18 g19.1 g19.2 q1106 same_f rfl (by decide +kernel) rfl rfl (congrArg J (ux_s _ _ _ _)) es20 dJ14_append_68 ?_
      refine gx_iload_n 71 1 dJ14_append_71 rfl ?_
      cases h
    refine gx_if_eq 49 56 dJ14_append_49 (by decide) (fun c22 => ?_) (fun c22 => ?_)
    · replace h := if_t h c22
      refine gx_sub [0, 1] rfl ?_
      exact hj21 _ _ h
    · replace h := if_f h c22
      refine gx_aload_n 52 0 dJ14_append_52 rfl ?_
      cases h
  refine gx_if_eq 14 45 dJ14_append_14 (by decide) (fun c24 => ?_) (fun c24 => ?_)
  · replace h := if_t h c24
    refine gx_sub [0, 1] rfl ?_
    exact hj23 _ _ h
  · replace h := if_f h c24
    refine gx_iload_n 17 1 dJ14_append_17 rfl ?_
    obtain ⟨z25, ez25, h⟩ := opt_e h
    refine gx_callS (As := [J a1]) (rest := []) (st' := [J z25.1]) 18 1 (mj9_canEncode ez25 l) (lw_S q1233 q1234 q165 q1235) (by decide +kernel) (by decide) rfl rfl (Nat.le_of_ble_eq_true rfl) dJ14_append_18 rfl ?_
    refine gx_if_eq 21 45 dJ14_append_21 (by decide) (fun c26 => ?_) (fun c26 => ?_)
    · replace h := if_t h c26
      refine gx_sub [0, 1] rfl ?_
      exact hj23 _ _ h
    · replace h := if_f h c26
      refine gx_aload_n 24 0 dJ14_append_24 rfl ?_
      obtain ⟨g27, h⟩ := gd_e h
      obtain ⟨g28, h⟩ := gd_e h
      refine gx_get (t := 23) (k := 0) (v := .ref (ad x0 (z25.2 a0 0))) 25 cw23 (by decide) g27 q1104 same_f (rf_ne g28) dJ14_append_25 ?_
      refine gx_aload_n 28 0 dJ14_append_28 rfl ?_
      refine gx_dup 29 dJ14_append_29 rfl ?_
      obtain ⟨g29, h⟩ := gd_e h
      refine gx_get (t := 23) (k := 3) (v := J (z25.2 a0 3)) 30 cw23 (by decide) g29 q1106 same_f rfl dJ14_append_30 ?_
      refine gx_dup_x1 33 dJ14_append_33 rfl rfl ?_
      refine gx_iconst 34 dJ14_append_34 ?_
      refine gx_iadd 35 dJ14_append_35 ?_
      obtain ⟨g30, h⟩ := gd_e h
      obtain ⟨g31, h⟩ := gd_e h
      obtain ⟨s32, es32, h⟩ := bnd_e h
      refine gx_put (t := 23) (k := 3) (x := ((z25.2 a0 3) + 1)) (ty := .int) 36 cw23 (by decide) g30 g31.1 g31.2 q1106 same_f rfl (by decide +kernel) rfl rfl (congrArg J (ux_s _ _ _ _)) es32 dJ14_append_36 ?_
      refine gx_iload_n 39 1 dJ14_append_39 rfl ?_
      refine gx_i2b 40 dJ14_append_40 ?_
      obtain ⟨g33, h⟩ := gd_e h
      obtain ⟨g34, h⟩ := gd_e h
      obtain ⟨g35, h⟩ := gd_e h
      obtain ⟨s36, es36, h⟩ := bnd_e h
      refine gx_bast 41 g33 g34.1 g34.2 g35 es36 dJ14_append_41 ?_
      refine gx_goto 42 75 dJ14_append_42 (by decide) ?_
      refine gx_sub [0] rfl ?_
      exact hj8 _ h
/-! java/lang/StringBuilder.append -/
noncomputable def j15_append (b : Bool) (a0 : Int) (a1 : Int) (s0 : XS) : Option (Int × XS) :=
  gd (tg b s0 a0 = 23) <|
  Option.bind (j14_append b a0 a1 s0) fun z2 =>
  some (a0, z2.2)
theorem mj15_append {b : Bool} {x0 : Nat} {D : XD} {a0 : Int} {a1 : Int} {s0 : XS} {res : Int × XS} (h : j15_append b a0 a1 s0 = some res) (l : Launch) : XMet0 l yJ15_append cJ15_append 2 (some (.object "java/lang/StringBuilder")) 6 b x0 D [.ref (ad x0 a0), J a1] s0 3 res := by
  refine XMet0.ofn [(0, .ref (ad x0 a0)), (1, J a1)] "java/lang/StringBuilder" "append" rfl rfl (plainFor_of_name (by decide)) (Nat.le_of_ble_eq_true rfl) rfl ?_
  unfold j15_append at h
  generalize nC s0 = cN
  generalize nS s0 = sN
  refine gx_aload_n 0 0 dJ15_append_0 rfl ?_
  refine gx_iload_n 1 1 dJ15_append_1 rfl ?_
  obtain ⟨g3, h⟩ := gd_e h
  obtain ⟨z2, ez2, h⟩ := opt_e h
  refine gx_callSU (As := [J a1]) (rest := []) (st' := [.ref (ad x0 z2.1)]) 2 1 cw23 g3 (mj14_append ez2 l) (lw_app (lw_in5 q1205 q2624 q1115 q1206 q180) (lw_meth q1207)) (by decide +kernel) (by decide) rfl rfl (Nat.le_of_ble_eq_true rfl) dJ15_append_2 rfl ?_
  refine gx_pop 5 dJ15_append_5 rfl ?_
  refine gx_aload_n 6 0 dJ15_append_6 rfl ?_
  exact gx_aret 7 (Or.inl ⟨_, rfl⟩) dJ15_append_7 (rt h)
/-! java/lang/StringUTF16.compress_2 -/
noncomputable def j7_compress_2_L3 (b : Bool) (a1 : Int) (a3 : Int) (k44 : Int → XS → Option (Int × XS)) (k23 : Int → XS → Option (Int × XS)) : Nat → Int → Int → Int → Int → XS → Option (Int × XS)
  | 0, _, _, _, _, _ => none
  | n + 1, x1_7, x3_8, x4_9, x5_10, s11 =>
    if i32 x4_9 ≤ i32 x5_10 then
      k44 x4_9 s11
    else
      gd (tg b s11 a1 = 105) <|
      gd (ok (ln b s11 a1) x1_7) <|
      bnd (s11 a1 (i32 x1_7)) fun x6_19 =>
      if i32 x6_19 ≤ i32 255 then
        gd (tg b s11 a3 = 102) <|
        gd (0 ≤ a3 ∧ ¬ (1438 ≤ a3 ∧ a3 < 1514)) <|
        gd (ok (ln b s11 a3) x3_8) <|
        bnd (ux s11 a3 (i32 x3_8) (i8 (i8 x6_19))) fun s24 =>
        bnd (x1_7 + 1) fun x1_25 =>
        bnd (x3_8 + 1) fun x3_26 =>
        bnd (x5_10 + 1) fun x5_27 =>
        j7_compress_2_L3 b a1 a3 k44 k23 n x1_25 x3_26 x4_9 x5_27 s24
      else
        k23 x5_10 s11
noncomputable def j7_compress_2 (b : Bool) (a1 : Int) (a2 : Int) (a3 : Int) (a4 : Int) (a5 : Int) (s0 : XS) : Option (Int × XS) :=
  bnd 0 fun x5_6 =>
  j7_compress_2_L3 b a1 a3
    (fun (x4_28 : Int) (s29 : XS) =>
      some (x4_28, s29))
    (fun (x5_30 : Int) (s31 : XS) =>
      some (x5_30, s31))
    FU a2 a4 a5 x5_6 s0
theorem wj7_compress_2_L3 {l : Launch} {x0 : Nat} {D : XD} {cN sN : Nat} {res : Int × XS} {b : Bool} {a1 : Int} {a3 : Int} {k44 : Int → XS → Option (Int × XS)} {k23 : Int → XS → Option (Int × XS)} (hk44 : ∀ (x4_12 : Int) (s13 : XS), k44 x4_12 s13 = some res → GX l cJ7_compress_2 "java/lang/StringUTF16" 7 (some .int) "compress" [] x0 D b 1 1 cN sN (0, res) s13 44 [(4, J x4_12)] []) (hk23 : ∀ (x5_14 : Int) (s15 : XS), k23 x5_14 s15 = some res → GX l cJ7_compress_2 "java/lang/StringUTF16" 7 (some .int) "compress" [] x0 D b 1 1 cN sN (0, res) s15 23 [(5, J x5_14)] []) : ∀ (n : Nat) (x1_7 : Int) (x3_8 : Int) (x4_9 : Int) (x5_10 : Int) (s11 : XS), j7_compress_2_L3 b a1 a3 k44 k23 n x1_7 x3_8 x4_9 x5_10 s11 = some res → GX l cJ7_compress_2 "java/lang/StringUTF16" 7 (some .int) "compress" [] x0 D b 1 1 cN sN (0, res) s11 3 [(0, .ref (ad x0 a1)), (1, J x1_7), (2, .ref (ad x0 a3)), (3, J x3_8), (4, J x4_9), (5, J x5_10)] [] := by
  intro n
  induction n with
  | zero =>
    intro x1_7 x3_8 x4_9 x5_10 s11 h
    cases h
  | succ n ih =>
    intro x1_7 x3_8 x4_9 x5_10 s11 h
    rw [j7_compress_2_L3] at h
    refine gx_iload 3 5 dJ7_compress_2_3 rfl ?_
    refine gx_iload 5 4 dJ7_compress_2_5 rfl ?_
    refine gx_icmp_ge 7 44 dJ7_compress_2_7 (by decide) (fun c16 => ?_) (fun c16 => ?_)
    · replace h := if_t h c16
      refine gx_sub [4] rfl ?_
      exact hk44 _ _ h
    · replace h := if_f h c16
      refine gx_aload_n 10 0 dJ7_compress_2_10 rfl ?_
      refine gx_iload_n 11 1 dJ7_compress_2_11 rfl ?_
      obtain ⟨g17, h⟩ := gd_e h
      obtain ⟨g18, h⟩ := gd_e h
      refine gx_cald 12 g17 g18 dJ7_compress_2_12 ?_
      obtain ⟨x6_19, ex6_19, h⟩ := bnd_e h
      refine gx_istore 13 [(6, J x6_19), (0, .ref (ad x0 a1)), (1, J x1_7), (2, .ref (ad x0 a3)), (3, J x3_8), (4, J x4_9), (5, J x5_10)] dJ7_compress_2_13 (by decide) ex6_19 rfl ?_
      refine gx_iload 15 0 dJ7_compress_2_15 rfl ?_
      refine gx_sipush 17 dJ7_compress_2_17 (by decide) ?_
      refine gx_icmp_le 20 26 dJ7_compress_2_20 (by decide) (fun c20 => ?_) (fun c20 => ?_)
      · replace h := if_t h c20
        refine gx_aload_n 26 3 dJ7_compress_2_26 rfl ?_
        refine gx_iload_n 27 4 dJ7_compress_2_27 rfl ?_
        refine gx_iload 28 0 dJ7_compress_2_28 rfl ?_
        refine gx_i2b 30 dJ7_compress_2_30 ?_
        obtain ⟨g21, h⟩ := gd_e h
        obtain ⟨g22, h⟩ := gd_e h
        obtain ⟨g23, h⟩ := gd_e h
        obtain ⟨s24, es24, h⟩ := bnd_e h
        refine gx_bast 31 g21 g22.1 g22.2 g23 es24 dJ7_compress_2_31 ?_
        obtain ⟨x1_25, ex1_25, h⟩ := bnd_e h
        refine gx_iinc 32 2 [(1, J x1_25), (6, J x6_19), (0, .ref (ad x0 a1)), (2, .ref (ad x0 a3)), (3, J x3_8), (4, J x4_9), (5, J x5_10)] dJ7_compress_2_32 rfl ex1_25 (by decide) rfl ?_
        obtain ⟨x3_26, ex3_26, h⟩ := bnd_e h
        refine gx_iinc 35 4 [(3, J x3_26), (1, J x1_25), (6, J x6_19), (0, .ref (ad x0 a1)), (2, .ref (ad x0 a3)), (4, J x4_9), (5, J x5_10)] dJ7_compress_2_35 rfl ex3_26 (by decide) rfl ?_
        obtain ⟨x5_27, ex5_27, h⟩ := bnd_e h
        refine gx_iinc 38 6 [(5, J x5_27), (3, J x3_26), (1, J x1_25), (6, J x6_19), (0, .ref (ad x0 a1)), (2, .ref (ad x0 a3)), (4, J x4_9)] dJ7_compress_2_38 rfl ex5_27 (by decide) rfl ?_
        refine gx_goto 41 3 dJ7_compress_2_41 (by decide) ?_
        refine gx_sub [4, 2, 5, 1, 6, 0] rfl ?_
        exact ih _ _ _ _ _ h
      · replace h := if_f h c20
        refine gx_sub [6] rfl ?_
        exact hk23 _ _ h
theorem mj7_compress_2 {b : Bool} {x0 : Nat} {D : XD} {a1 : Int} {a2 : Int} {a3 : Int} {a4 : Int} {a5 : Int} {s0 : XS} {res : Int × XS} (h : j7_compress_2 b a1 a2 a3 a4 a5 s0 = some res) (l : Launch) : XMet0 l yJ7_compress_2 cJ7_compress_2 7 (some .int) 1 b x0 D [.ref (ad x0 a1), J a2, .ref (ad x0 a3), J a4, J a5] s0 1 res := by
  refine XMet0.ofn [(0, .ref (ad x0 a1)), (1, J a2), (2, .ref (ad x0 a3)), (3, J a4), (4, J a5)] "java/lang/StringUTF16" "compress" rfl rfl (plainFor_of_name (by decide)) (Nat.le_of_ble_eq_true rfl) rfl ?_
  unfold j7_compress_2 at h
  generalize nC s0 = cN
  generalize nS s0 = sN
  refine gx_iconst 0 dJ7_compress_2_0 ?_
  obtain ⟨x5_6, ex5_6, h⟩ := bnd_e h
  refine gx_istore 1 [(5, J x5_6), (0, .ref (ad x0 a1)), (1, J a2), (2, .ref (ad x0 a3)), (3, J a4), (4, J a5)] dJ7_compress_2_1 (by decide) ex5_6 rfl ?_
  refine gx_sub [1, 2, 3, 4, 5, 0] rfl ?_
  refine wj7_compress_2_L3 (fun x4_28 s29 h => ?_) (fun x5_30 s31 h => ?_) FU _ _ _ _ _ h
  · refine gx_iload 44 0 dJ7_compress_2_44 rfl ?_
    exact gx_iret 46 dJ7_compress_2_46 (rt h)
  · refine gx_iload 23 0 dJ7_compress_2_23 rfl ?_
    exact gx_iret 25 dJ7_compress_2_25 (rt h)
/-! java/lang/StringUTF16.compress -/
noncomputable def j7_compress (b : Bool) (a1 : Int) (a2 : Int) (a3 : Int) (s0 : XS) : Option (Int × XS) :=
  gd (0 ≤ s0 (-1) 0 ∧ 0 ≤ s0 (-1) 1) <|
  gd (0 ≤ i32 a3 ∧ i32 a3 < 1000000) <|
  bnd (nwx s0 102 (i32 a3) (i32 a3) (fun _ => 0)) fun s6 =>
  bnd (s0 (-1) 0) fun x3_7 =>
  Option.bind (j7_compress_2 b a1 a2 x3_7 0 a3 s6) fun z8 =>
  bnd z8.1 fun x4_9 =>
  bnd (fun (x3_10 : Int) (s11 : XS) =>
      some (x3_10, s11)) fun j12 =>
  if i32 x4_9 = i32 a3 then
    j12 x3_7 z8.2
  else
    none
theorem mj7_compress {b : Bool} {x0 : Nat} {D : XD} {a1 : Int} {a2 : Int} {a3 : Int} {s0 : XS} {res : Int × XS} (h : j7_compress b a1 a2 a3 s0 = some res) (l : Launch) : XMet0 l yJ7_compress cJ7_compress 6 (some (.array .byte)) 2 b x0 D [.ref (ad x0 a1), J a2, J a3] s0 3 res := by
  refine XMet0.ofn [(0, .ref (ad x0 a1)), (1, J a2), (2, J a3)] "java/lang/StringUTF16" "compress" rfl rfl (plainFor_of_name (by decide)) (Nat.le_of_ble_eq_true rfl) rfl ?_
  unfold j7_compress at h
  generalize nC s0 = cN
  generalize nS s0 = sN
  refine gx_iload_n 0 2 dJ7_compress_0 rfl ?_
  obtain ⟨g4, h⟩ := gd_e h
  obtain ⟨g5, h⟩ := gd_e h
  obtain ⟨s6, es6, h⟩ := bnd_e h
  refine gx_newarr (t := 102) (atype := .byte) 1 g4 (by decide) (by decide) g5 q351 (by decide) (fun _ _ h => h) (fun _ _ => rfl) es6 dJ7_compress_1 ?_
  obtain ⟨x3_7, ex3_7, h⟩ := bnd_e h
  refine gx_astore_nv 3 [(3, .ref (ad x0 x3_7)), (0, .ref (ad x0 a1)), (1, J a2), (2, J a3)] dJ7_compress_3 (by decide) ex3_7 rfl ?_
  refine gx_aload_n 4 1 dJ7_compress_4 rfl ?_
  refine gx_iload_n 5 2 dJ7_compress_5 rfl ?_
  refine gx_aload_n 6 0 dJ7_compress_6 rfl ?_
  refine gx_iconst 7 dJ7_compress_7 ?_
  refine gx_iload_n 8 3 dJ7_compress_8 rfl ?_
  obtain ⟨z8, ez8, h⟩ := opt_e h
  refine gx_callS (As := [.ref (ad x0 a1), J a2, .ref (ad x0 x3_7), J 0, J a3]) (rest := []) (st' := [J z8.1]) 9 5 (mj7_compress_2 ez8 l) (lw_S q676 q677 q163 q678) (by decide +kernel) (by decide) rfl rfl (Nat.le_of_ble_eq_true rfl) dJ7_compress_9 rfl ?_
  obtain ⟨x4_9, ex4_9, h⟩ := bnd_e h
  refine gx_istore 12 [(4, J x4_9), (3, .ref (ad x0 x3_7)), (0, .ref (ad x0 a1)), (1, J a2), (2, J a3)] dJ7_compress_12 (by decide) ex4_9 rfl ?_
  refine gx_iload 14 0 dJ7_compress_14 rfl ?_
  refine gx_iload_n 16 4 dJ7_compress_16 rfl ?_
  obtain ⟨j12, ej12, h⟩ := bnd_e h
  have hj12 : ∀ (x3_10 : Int) (s11 : XS), j12 x3_10 s11 = some res → GX l cJ7_compress "java/lang/StringUTF16" 6 (some (.array .byte)) "compress" [] x0 D b 3 2 cN sN (0, res) s11 57 [(3, .ref (ad x0 x3_10))] [] := by
    clear h
    intro x3_10 s11 h
    subst ej12
    refine gx_aload_n 57 0 dJ7_compress_57 rfl ?_
    exact gx_aret 58 (Or.inr ⟨_, rfl⟩) dJ7_compress_58 (rt h)
  refine gx_icmp_eq 17 57 dJ7_compress_17 (by decide) (fun c13 => ?_) (fun c13 => ?_)
  · replace h := if_t h c13
    refine gx_sub [1] rfl ?_
    exact hj12 _ _ h
  · replace h := if_f h c13
    refine gx_aload_n 20 2 dJ7_compress_20 rfl ?_
    refine gx_iload_n 21 3 dJ7_compress_21 rfl ?_
    refine gx_iload_n 22 4 dJ7_compress_22 rfl ?_
    cases h
/-! java/lang/StringUTF16.coderFromArrayLen -/
noncomputable def j7_coderFromArrayLen (b : Bool) (a1 : Int) (a2 : Int) (s0 : XS) : Option (Int × XS) :=
  gd (tg b s0 a1 = 102) <|
  gd (i8 (i8 (iushr (a2 - (ln b s0 a1)) 31)) = i32 (i8 (iushr (a2 - (ln b s0 a1)) 31))) <|
  some ((i8 (iushr (a2 - (ln b s0 a1)) 31)), s0)
theorem mj7_coderFromArrayLen {b : Bool} {x0 : Nat} {D : XD} {a1 : Int} {a2 : Int} {s0 : XS} {res : Int × XS} (h : j7_coderFromArrayLen b a1 a2 s0 = some res) (l : Launch) : XMet0 l yJ7_coderFromArrayLen cJ7_coderFromArrayLen 2 (some .byte) 1 b x0 D [.ref (ad x0 a1), J a2] s0 1 res := by
  refine XMet0.ofn [(0, .ref (ad x0 a1)), (1, J a2)] "java/lang/StringUTF16" "coderFromArrayLen" rfl rfl (plainFor_of_name (by decide)) (Nat.le_of_ble_eq_true rfl) rfl ?_
  unfold j7_coderFromArrayLen at h
  generalize nC s0 = cN
  generalize nS s0 = sN
  refine gx_iload_n 0 1 dJ7_coderFromArrayLen_0 rfl ?_
  refine gx_aload_n 1 0 dJ7_coderFromArrayLen_1 rfl ?_
  obtain ⟨g3, h⟩ := gd_e h
  refine gx_alen (t := 102) (ty := .byte) 2 (by decide) (by decide) g3 dJ7_coderFromArrayLen_2 ?_
  refine gx_isub 3 dJ7_coderFromArrayLen_3 ?_
  refine gx_bipush 4 dJ7_coderFromArrayLen_4 (by decide) ?_
  refine gx_iushr 6 dJ7_coderFromArrayLen_6 ?_
  refine gx_i2b 7 dJ7_coderFromArrayLen_7 ?_
  obtain ⟨g4, h⟩ := gd_e h
  exact gx_bret 8 dJ7_coderFromArrayLen_8 g4 (rt h)
/-! java/lang/String.init_2 -/
noncomputable def j6_init_2 (b : Bool) (a0 : Int) (a1 : Int) (a2 : Int) (a3 : Int) (s0 : XS) : Option (Int × XS) :=
  if i32 a3 = 0 then
    none
  else
    if i32 1 = 0 then
      gd (tg b s0 a0 = 22) <|
      gd (0 ≤ a0 ∧ ¬ (1438 ≤ a0 ∧ a0 < 1514)) <|
      gd (i8 1 = i32 1) <|
      bnd (ux s0 a0 1 1) fun s9 =>
      none
    else
      Option.bind (j7_compress b a1 a2 a3 s0) fun z10 =>
      bnd z10.1 fun x5_11 =>
      Option.bind (j7_coderFromArrayLen b x5_11 a3 z10.2) fun z12 =>
      gd (tg b z12.2 a0 = 22) <|
      gd (0 ≤ a0 ∧ ¬ (1438 ≤ a0 ∧ a0 < 1514)) <|
      gd (i8 z12.1 = i32 z12.1) <|
      bnd (ux z12.2 a0 1 z12.1) fun s16 =>
      gd (tg b s16 a0 = 22) <|
      gd (0 ≤ a0 ∧ ¬ (1438 ≤ a0 ∧ a0 < 1514)) <|
      gd (¬ x5_11 = -1) <|
      bnd (ux s16 a0 0 x5_11) fun s20 =>
      some (0, s20)
theorem mj6_init_2 {b : Bool} {x0 : Nat} {D : XD} {a0 : Int} {a1 : Int} {a2 : Int} {a3 : Int} {s0 : XS} {res : Int × XS} (h : j6_init_2 b a0 a1 a2 a3 s0 = some res) (l : Launch) : XMet0 l yJ6_init_2 cJ6_init_2 6 none 3 b x0 D [.ref (ad x0 a0), .ref (ad x0 a1), J a2, J a3, .null] s0 0 res := by
  refine XMet0.ofn [(0, .ref (ad x0 a0)), (1, .ref (ad x0 a1)), (2, J a2), (3, J a3), (4, .null)] "java/lang/String" "<init>" rfl rfl (plainFor_of_name (by decide)) (Nat.le_of_ble_eq_true rfl) rfl ?_
  unfold j6_init_2 at h
  generalize nC s0 = cN
  generalize nS s0 = sN
  refine gx_aload_n 0 0 dJ6_init_2_0 rfl ?_
  refine gx_objInit 1 q669 q195 q196 dJ6_init_2_1 (by decide) (Nat.le_of_ble_eq_true rfl) ?_
  refine gx_iload_n 4 3 dJ6_init_2_4 rfl ?_
  refine gx_if_ne 5 27 dJ6_init_2_5 (by decide) (fun c4 => ?_) (fun c4 => ?_)
  · replace h := if_f h c4
    refine gx_getsJ (v := 1) 27 (List.mem_of_getElem? (i := 0) rfl) q671 dJ6_init_2_27 ?_
    refine gx_if_eq 30 58 dJ6_init_2_30 (by decide) (fun c5 => ?_) (fun c5 => ?_)
    · replace h := if_t h c5
      refine gx_aload_n 58 0 dJ6_init_2_58 rfl ?_
      refine gx_iconst 59 dJ6_init_2_59 ?_
      obtain ⟨g6, h⟩ := gd_e h
      obtain ⟨g7, h⟩ := gd_e h
      obtain ⟨g8, h⟩ := gd_e h
      obtain ⟨s9, es9, h⟩ := bnd_e h
      refine gx_putF (t := 22) (k := 1) (x := 1) (ty := .byte) 60 rfl cw22 (by decide) g6 g7.1 g7.2 q723 same_f rfl rfl (by decide +kernel) (by_narrow g8) (by_fits g8) (congrArg J (ux_s _ _ _ _)) es9 dJ6_init_2_60 ?_
      refine gx_aload_n 63 0 dJ6_init_2_63 rfl ?_
      refine gx_aload_n 64 1 dJ6_init_2_64 rfl ?_
      refine gx_iload_n 65 2 dJ6_init_2_65 rfl ?_
      refine gx_iload_n 66 3 dJ6_init_2_66 rfl ?_
      cases h
    · replace h := if_f h c5
      refine gx_aload_n 33 1 dJ6_init_2_33 rfl ?_
      refine gx_iload_n 34 2 dJ6_init_2_34 rfl ?_
      refine gx_iload_n 35 3 dJ6_init_2_35 rfl ?_
      obtain ⟨z10, ez10, h⟩ := opt_e h
      refine gx_callS (As := [.ref (ad x0 a1), J a2, J a3]) (rest := []) (st' := [.ref (ad x0 z10.1)]) 36 3 (mj7_compress ez10 l) (lw_S q673 q674 q163 q675) (by decide +kernel) (by decide) rfl rfl (Nat.le_of_ble_eq_true rfl) dJ6_init_2_36 rfl ?_
      obtain ⟨x5_11, ex5_11, h⟩ := bnd_e h
      refine gx_astorev 39 [(5, .ref (ad x0 x5_11)), (0, .ref (ad x0 a0)), (1, .ref (ad x0 a1)), (2, J a2), (3, J a3), (4, .null)] dJ6_init_2_39 (by decide) ex5_11 rfl ?_
      refine gx_aload_n 41 1 dJ6_init_2_41 rfl ?_
      refine gx_aload 42 0 dJ6_init_2_42 rfl ?_
      refine gx_iload_n 44 4 dJ6_init_2_44 rfl ?_
      obtain ⟨z12, ez12, h⟩ := opt_e h
      refine gx_callS (As := [.ref (ad x0 x5_11), J a3]) (rest := [.ref (ad x0 a0)]) (st' := [J z12.1, .ref (ad x0 a0)]) 45 2 (mj7_coderFromArrayLen ez12 l) (lw_S q718 q719 q163 q720) (by decide +kernel) (by decide) rfl rfl (Nat.le_of_ble_eq_true rfl) dJ6_init_2_45 rfl ?_
      obtain ⟨g13, h⟩ := gd_e h
      obtain ⟨g14, h⟩ := gd_e h
      obtain ⟨g15, h⟩ := gd_e h
      obtain ⟨s16, es16, h⟩ := bnd_e h
      refine gx_putF (t := 22) (k := 1) (x := z12.1) (ty := .byte) 48 rfl cw22 (by decide) g13 g14.1 g14.2 q723 same_f rfl rfl (by decide +kernel) (by_narrow g15) (by_fits g15) (congrArg J (ux_s _ _ _ _)) es16 dJ6_init_2_48 ?_
      refine gx_aload_n 51 1 dJ6_init_2_51 rfl ?_
      refine gx_aload 52 0 dJ6_init_2_52 rfl ?_
      obtain ⟨g17, h⟩ := gd_e h
      obtain ⟨g18, h⟩ := gd_e h
      obtain ⟨g19, h⟩ := gd_e h
      obtain ⟨s20, es20, h⟩ := bnd_e h
      refine gx_putF (t := 22) (k := 0) (x := x5_11) (ty := (.array .byte)) 54 rfl cw22 (by decide) g17 g18.1 g18.2 q722 same_f rfl rfl (by decide +kernel) (refOk rfl _).1 (refOk rfl _).2 ((congrArg (rf x0) (ux_s _ _ _ _)).trans (rf_ne g19)) es20 dJ6_init_2_54 ?_
      exact gx_vret 57 dJ6_init_2_57 (rt h)
  · replace h := if_t h c4
    refine gx_aload_n 8 0 dJ6_init_2_8 rfl ?_
    cases h
/-! java/lang/String.init -/
noncomputable def j6_init (b : Bool) (a0 : Int) (a1 : Int) (s0 : XS) : Option (Int × XS) :=
  gd (tg b s0 a1 = 105) <|
  Option.bind (j6_init_2 b a0 a1 0 (ln b s0 a1) s0) fun z3 =>
  some (0, z3.2)
theorem mj6_init {b : Bool} {x0 : Nat} {D : XD} {a0 : Int} {a1 : Int} {s0 : XS} {res : Int × XS} (h : j6_init b a0 a1 s0 = some res) (l : Launch) : XMet0 l yJ6_init cJ6_init 2 none 4 b x0 D [.ref (ad x0 a0), .ref (ad x0 a1)] s0 0 res := by
  refine XMet0.ofn [(0, .ref (ad x0 a0)), (1, .ref (ad x0 a1))] "java/lang/String" "<init>" rfl rfl (plainFor_of_name (by decide)) (Nat.le_of_ble_eq_true rfl) rfl ?_
  unfold j6_init at h
  generalize nC s0 = cN
  generalize nS s0 = sN
  refine gx_aload_n 0 0 dJ6_init_0 rfl ?_
  refine gx_aload_n 1 1 dJ6_init_1 rfl ?_
  refine gx_iconst 2 dJ6_init_2 ?_
  refine gx_aload_n 3 1 dJ6_init_3 rfl ?_
  obtain ⟨g2, h⟩ := gd_e h
  refine gx_alen (t := 105) (ty := .char) 4 (by decide) (by decide) g2 dJ6_init_4 ?_
  refine gx_null 5 dJ6_init_5 ?_
  obtain ⟨z3, ez3, h⟩ := opt_e h
  refine gx_callI (As := [.ref (ad x0 a1), J 0, J (ln b s0 a1), .null]) (rest := []) 6 4 (mj6_init_2 ez3 l) q668 q162 q666 q667 rfl (by decide +kernel) (by decide) rfl rfl (Nat.le_of_ble_eq_true rfl) dJ6_init_6 ?_
  exact gx_vret 9 dJ6_init_9 (rt h)
/-! java/lang/String.valueOf -/
noncomputable def j6_valueOf (b : Bool) (a1 : Int) (s0 : XS) : Option (Int × XS) :=
  gd (0 ≤ s0 (-1) 0 ∧ 0 ≤ s0 (-1) 1) <|
  bnd (nwx s0 22 0 4 (dfl 22)) fun s3 =>
  Option.bind (j6_init b (s0 (-1) 0) a1 s3) fun z4 =>
  some ((s0 (-1) 0), z4.2)
theorem mj6_valueOf {b : Bool} {x0 : Nat} {D : XD} {a1 : Int} {s0 : XS} {res : Int × XS} (h : j6_valueOf b a1 s0 = some res) (l : Launch) : XMet0 l yJ6_valueOf cJ6_valueOf 1 (some (.object "java/lang/String")) 5 b x0 D [.ref (ad x0 a1)] s0 3 res := by
  refine XMet0.ofn [(0, .ref (ad x0 a1))] "java/lang/String" "valueOf" rfl rfl (plainFor_of_name (by decide)) (Nat.le_of_ble_eq_true rfl) rfl ?_
  unfold j6_valueOf at h
  generalize nC s0 = cN
  generalize nS s0 = sN
  obtain ⟨g2, h⟩ := gd_e h
  obtain ⟨s3, es3, h⟩ := bnd_e h
  refine gx_new (t := 22) 0 g2 cw22 tyJ6 tyJ6_ok (df_22 b x0 _) q661 q662 q162 es3 dJ6_valueOf_0 ?_
  refine gx_dup 3 dJ6_valueOf_3 rfl ?_
  refine gx_aload_n 4 0 dJ6_valueOf_4 rfl ?_
  obtain ⟨z4, ez4, h⟩ := opt_e h
  refine gx_callI (As := [.ref (ad x0 a1)]) (rest := [.ref (ad x0 (s0 (-1) 0))]) 5 1 (mj6_init ez4 l) q665 q162 q663 q664 rfl (by decide +kernel) (by decide) rfl rfl (Nat.le_of_ble_eq_true rfl) dJ6_valueOf_5 ?_
  exact gx_aret 8 (Or.inl ⟨_, rfl⟩) dJ6_valueOf_8 (rt h)
/-! jdk/internal/util/ArraysSupport.signedHashCode -/
noncomputable def j10_signedHashCode_L8 (b : Bool) (a2 : Int) (k35 : Int → XS → Option (Int × XS)) : Nat → Int → Int → Int → XS → Option (Int × XS)
  | 0, _, _, _, _ => none
  | n + 1, x0_6, x4_7, x5_8, s9 =>
    if i32 x4_7 ≤ i32 x5_8 then
      k35 x0_6 s9
    else
      gd (tg b s9 a2 = 102) <|
      gd (ok (ln b s9 a2) x5_8) <|
      bnd ((31 * x0_6) + (iand (s9 a2 (i32 x5_8)) 255)) fun x0_15 =>
      bnd (x5_8 + 1) fun x5_16 =>
      j10_signedHashCode_L8 b a2 k35 n x0_15 x4_7 x5_16 s9
noncomputable def j10_signedHashCode (b : Bool) (a1 : Int) (a2 : Int) (a3 : Int) (a4 : Int) (s0 : XS) : Option (Int × XS) :=
  bnd (a3 + a4) fun x4_5 =>
  j10_signedHashCode_L8 b a2
    (fun (x0_17 : Int) (s18 : XS) =>
      some (x0_17, s18))
    FU a1 x4_5 a3 s0
theorem wj10_signedHashCode_L8 {l : Launch} {x0 : Nat} {D : XD} {cN sN : Nat} {res : Int × XS} {b : Bool} {a2 : Int} {k35 : Int → XS → Option (Int × XS)} (hk35 : ∀ (x0_10 : Int) (s11 : XS), k35 x0_10 s11 = some res → GX l cJ10_signedHashCode "jdk/internal/util/ArraysSupport" 6 (some .int) "signedHashCode" [] x0 D b 1 1 cN sN (0, res) s11 35 [(0, J x0_10)] []) : ∀ (n : Nat) (x0_6 : Int) (x4_7 : Int) (x5_8 : Int) (s9 : XS), j10_signedHashCode_L8 b a2 k35 n x0_6 x4_7 x5_8 s9 = some res → GX l cJ10_signedHashCode "jdk/internal/util/ArraysSupport" 6 (some .int) "signedHashCode" [] x0 D b 1 1 cN sN (0, res) s9 8 [(0, J x0_6), (1, .ref (ad x0 a2)), (4, J x4_7), (5, J x5_8)] [] := by
  intro n
  induction n with
  | zero =>
    intro x0_6 x4_7 x5_8 s9 h
    cases h
  | succ n ih =>
    intro x0_6 x4_7 x5_8 s9 h
    rw [j10_signedHashCode_L8] at h
    refine gx_iload 8 3 dJ10_signedHashCode_8 rfl ?_
    refine gx_iload 10 2 dJ10_signedHashCode_10 rfl ?_
    refine gx_icmp_ge 12 35 dJ10_signedHashCode_12 (by decide) (fun c12 => ?_) (fun c12 => ?_)
    · replace h := if_t h c12
      refine gx_sub [0] rfl ?_
      exact hk35 _ _ h
    · replace h := if_f h c12
      refine gx_bipush 15 dJ10_signedHashCode_15 (by decide) ?_
      refine gx_iload_n 17 0 dJ10_signedHashCode_17 rfl ?_
      refine gx_imul 18 dJ10_signedHashCode_18 ?_
      refine gx_aload_n 19 1 dJ10_signedHashCode_19 rfl ?_
      refine gx_iload 20 3 dJ10_signedHashCode_20 rfl ?_
      obtain ⟨g13, h⟩ := gd_e h
      obtain ⟨g14, h⟩ := gd_e h
      refine gx_bald 22 g13 g14 dJ10_signedHashCode_22 ?_
      refine gx_sipush 23 dJ10_signedHashCode_23 (by decide) ?_
      refine gx_iand 26 dJ10_signedHashCode_26 ?_
      refine gx_iadd 27 dJ10_signedHashCode_27 ?_
      obtain ⟨x0_15, ex0_15, h⟩ := bnd_e h
      refine gx_istore_n 28 [(0, J x0_15), (1, .ref (ad x0 a2)), (4, J x4_7), (5, J x5_8)] dJ10_signedHashCode_28 (by decide) ex0_15 rfl ?_
      obtain ⟨x5_16, ex5_16, h⟩ := bnd_e h
      refine gx_iinc 29 3 [(5, J x5_16), (0, J x0_15), (1, .ref (ad x0 a2)), (4, J x4_7)] dJ10_signedHashCode_29 rfl ex5_16 (by decide) rfl ?_
      refine gx_goto 32 8 dJ10_signedHashCode_32 (by decide) ?_
      refine gx_sub [1, 2, 3, 0] rfl ?_
      exact ih _ _ _ _ h
theorem mj10_signedHashCode {b : Bool} {x0 : Nat} {D : XD} {a1 : Int} {a2 : Int} {a3 : Int} {a4 : Int} {s0 : XS} {res : Int × XS} (h : j10_signedHashCode b a1 a2 a3 a4 s0 = some res) (l : Launch) : XMet0 l yJ10_signedHashCode cJ10_signedHashCode 6 (some .int) 1 b x0 D [J a1, .ref (ad x0 a2), J a3, J a4] s0 1 res := by
  refine XMet0.ofn [(0, J a1), (1, .ref (ad x0 a2)), (2, J a3), (3, J a4)] "jdk/internal/util/ArraysSupport" "signedHashCode" rfl rfl (plainFor_of_name (by decide)) (Nat.le_of_ble_eq_true rfl) rfl ?_
  unfold j10_signedHashCode at h
  generalize nC s0 = cN
  generalize nS s0 = sN
  refine gx_iload_n 0 2 dJ10_signedHashCode_0 rfl ?_
  refine gx_iload_n 1 3 dJ10_signedHashCode_1 rfl ?_
  refine gx_iadd 2 dJ10_signedHashCode_2 ?_
  obtain ⟨x4_5, ex4_5, h⟩ := bnd_e h
  refine gx_istore 3 [(4, J x4_5), (0, J a1), (1, .ref (ad x0 a2)), (2, J a3), (3, J a4)] dJ10_signedHashCode_3 (by decide) ex4_5 rfl ?_
  refine gx_iload_n 5 3 dJ10_signedHashCode_5 rfl ?_
  refine gx_istore 6 [(5, J a3), (4, J x4_5), (0, J a1), (1, .ref (ad x0 a2)), (2, J a3), (3, J a4)] dJ10_signedHashCode_6 (by decide) rfl rfl ?_
  refine gx_sub [2, 3, 1, 0] rfl ?_
  refine wj10_signedHashCode_L8 (fun x0_17 s18 h => ?_) FU _ _ _ _ h
  · refine gx_iload_n 35 0 dJ10_signedHashCode_35 rfl ?_
    exact gx_iret 36 dJ10_signedHashCode_36 (rt h)
/-! jdk/internal/util/ArraysSupport.vectorizedHashCode -/
noncomputable def j10_vectorizedHashCode (b : Bool) (a1 : Int) (a2 : Int) (a3 : Int) (a4 : Int) (a5 : Int) (s0 : XS) : Option (Int × XS) :=
  bnd (fun (x4_6 : Int) (s7 : XS) =>
      none) fun j8 =>
  if i32 a5 = 4 then
    gd (tg b s0 a1 = 102) <|
    Option.bind (j10_signedHashCode b a4 a1 a2 a3 s0) fun z11 =>
    some (z11.1, z11.2)
  else
  if i32 a5 = 5 then
    none
  else
  if i32 a5 = 6 then
    j8 a5 s0
  else
  if i32 a5 = 7 then
    j8 a5 s0
  else
  if i32 a5 = 8 then
    gd (tg b s0 a1 = 102) <|
    none
  else
  if i32 a5 = 9 then
    none
  else
  if i32 a5 = 10 then
    gd (tg b s0 a1 = 101) <|
    none
  else
    j8 a5 s0
theorem mj10_vectorizedHashCode {b : Bool} {x0 : Nat} {D : XD} {a1 : Int} {a2 : Int} {a3 : Int} {a4 : Int} {a5 : Int} {s0 : XS} {res : Int × XS} (h : j10_vectorizedHashCode b a1 a2 a3 a4 a5 s0 = some res) (l : Launch) : XMet0 l yJ10_vectorizedHashCode cJ10_vectorizedHashCode 5 (some .int) 2 b x0 D [.ref (ad x0 a1), J a2, J a3, J a4, J a5] s0 1 res := by
  refine XMet0.ofn [(0, .ref (ad x0 a1)), (1, J a2), (2, J a3), (3, J a4), (4, J a5)] "jdk/internal/util/ArraysSupport" "vectorizedHashCode" rfl rfl (plainFor_of_name (by decide)) (Nat.le_of_ble_eq_true rfl) rfl ?_
  unfold j10_vectorizedHashCode at h
  generalize nC s0 = cN
  generalize nS s0 = sN
  refine gx_iload 0 4 dJ10_vectorizedHashCode_0 rfl ?_
  obtain ⟨j8, ej8, h⟩ := bnd_e h
  have hj8 : ∀ (x4_6 : Int) (s7 : XS), j8 x4_6 s7 = some res → GX l cJ10_vectorizedHashCode "jdk/internal/util/ArraysSupport" 5 (some .int) "vectorizedHashCode" [] x0 D b 1 2 cN sN (0, res) s7 129 [(4, J x4_6)] [] := by
    clear h
    intro x4_6 s7 h
    subst ej8
    cases h
  by_cases c9 : i32 a5 = 4
  · replace h := if_t h c9
    refine gx_tableIn 2 44 4 dJ10_vectorizedHashCode_2 c9 (by decide) (by decide) rfl (by decide) ?_
    refine gx_iload_n 44 3 dJ10_vectorizedHashCode_44 rfl ?_
    refine gx_aload_n 45 0 dJ10_vectorizedHashCode_45 rfl ?_
    obtain ⟨g10, h⟩ := gd_e h
    refine gx_castA (t := 102) (ty := .byte) 46 (by decide) (by decide) (by decide +kernel) g10 q776 dJ10_vectorizedHashCode_46 ?_
    refine gx_iload_n 49 1 dJ10_vectorizedHashCode_49 rfl ?_
    refine gx_iload_n 50 2 dJ10_vectorizedHashCode_50 rfl ?_
    obtain ⟨z11, ez11, h⟩ := opt_e h
    refine gx_callS (As := [J a4, .ref (ad x0 a1), J a2, J a3]) (rest := []) (st' := [J z11.1]) 51 4 (mj10_signedHashCode ez11 l) (lw_S q777 q778 q166 q779) (by decide +kernel) (by decide) rfl rfl (Nat.le_of_ble_eq_true rfl) dJ10_vectorizedHashCode_51 rfl ?_
    refine gx_goto 54 157 dJ10_vectorizedHashCode_54 (by decide) ?_
    exact gx_iret 157 dJ10_vectorizedHashCode_157 (rt h)
  replace h := if_f h c9
  by_cases c12 : i32 a5 = 5
  · replace h := if_t h c12
    refine gx_tableIn 2 57 5 dJ10_vectorizedHashCode_2 c12 (by decide) (by decide) rfl (by decide) ?_
    refine gx_aload_n 57 0 dJ10_vectorizedHashCode_57 rfl ?_
    cases h
  replace h := if_f h c12
  by_cases c13 : i32 a5 = 6
  · replace h := if_t h c13
    refine gx_tableIn 2 129 6 dJ10_vectorizedHashCode_2 c13 (by decide) (by decide) rfl (by decide) ?_
    refine gx_sub [4] rfl ?_
    exact hj8 _ _ h
  replace h := if_f h c13
  by_cases c14 : i32 a5 = 7
  · replace h := if_t h c14
    refine gx_tableIn 2 129 7 dJ10_vectorizedHashCode_2 c14 (by decide) (by decide) rfl (by decide) ?_
    refine gx_sub [4] rfl ?_
    exact hj8 _ _ h
  replace h := if_f h c14
  by_cases c15 : i32 a5 = 8
  · replace h := if_t h c15
    refine gx_tableIn 2 90 8 dJ10_vectorizedHashCode_2 c15 (by decide) (by decide) rfl (by decide) ?_
    refine gx_iload_n 90 3 dJ10_vectorizedHashCode_90 rfl ?_
    refine gx_aload_n 91 0 dJ10_vectorizedHashCode_91 rfl ?_
    obtain ⟨g16, h⟩ := gd_e h
    refine gx_castA (t := 102) (ty := .byte) 92 (by decide) (by decide) (by decide +kernel) g16 q776 dJ10_vectorizedHashCode_92 ?_
    refine gx_iload_n 95 1 dJ10_vectorizedHashCode_95 rfl ?_
    refine gx_iload_n 96 2 dJ10_vectorizedHashCode_96 rfl ?_
    cases h
  replace h := if_f h c15
  by_cases c17 : i32 a5 = 9
  · replace h := if_t h c17
    refine gx_tableIn 2 103 9 dJ10_vectorizedHashCode_2 c17 (by decide) (by decide) rfl (by decide) ?_
    refine gx_iload_n 103 3 dJ10_vectorizedHashCode_103 rfl ?_
    refine gx_aload_n 104 0 dJ10_vectorizedHashCode_104 rfl ?_
    cases h
  replace h := if_f h c17
  by_cases c18 : i32 a5 = 10
  · replace h := if_t h c18
    refine gx_tableIn 2 116 10 dJ10_vectorizedHashCode_2 c18 (by decide) (by decide) rfl (by decide) ?_
    refine gx_iload_n 116 3 dJ10_vectorizedHashCode_116 rfl ?_
    refine gx_aload_n 117 0 dJ10_vectorizedHashCode_117 rfl ?_
    obtain ⟨g19, h⟩ := gd_e h
    refine gx_castA (t := 101) (ty := .int) 118 (by decide) (by decide) (by decide +kernel) g19 q807 dJ10_vectorizedHashCode_118 ?_
    refine gx_iload_n 121 1 dJ10_vectorizedHashCode_121 rfl ?_
    refine gx_iload_n 122 2 dJ10_vectorizedHashCode_122 rfl ?_
    cases h
  replace h := if_f h c18
  refine gx_tableOut 2 129 dJ10_vectorizedHashCode_2 (by omega) (by decide) ?_
  refine gx_sub [4] rfl ?_
  exact hj8 _ _ h
/-! java/lang/StringLatin1.hashCode -/
noncomputable def j9_hashCode (b : Bool) (a1 : Int) (s0 : XS) : Option (Int × XS) :=
  gd (tg b s0 a1 = 102) <|
  if i32 (ln b s0 a1) = 0 then
    some (0, s0)
  else
  if i32 (ln b s0 a1) = 1 then
    gd (tg b s0 a1 = 102) <|
    gd (ok (ln b s0 a1) 0) <|
    some ((iand (s0 a1 (i32 0)) 255), s0)
  else
    gd (tg b s0 a1 = 102) <|
    Option.bind (j10_vectorizedHashCode b a1 0 (ln b s0 a1) 0 4 s0) fun z8 =>
    some (z8.1, z8.2)
theorem mj9_hashCode {b : Bool} {x0 : Nat} {D : XD} {a1 : Int} {s0 : XS} {res : Int × XS} (h : j9_hashCode b a1 s0 = some res) (l : Launch) : XMet0 l yJ9_hashCode cJ9_hashCode 1 (some .int) 3 b x0 D [.ref (ad x0 a1)] s0 1 res := by
  refine XMet0.ofn [(0, .ref (ad x0 a1))] "java/lang/StringLatin1" "hashCode" rfl rfl (plainFor_of_name (by decide)) (Nat.le_of_ble_eq_true rfl) rfl ?_
  unfold j9_hashCode at h
  generalize nC s0 = cN
  generalize nS s0 = sN
  refine gx_aload_n 0 0 dJ9_hashCode_0 rfl ?_
  obtain ⟨g2, h⟩ := gd_e h
  refine gx_alen (t := 102) (ty := .byte) 1 (by decide) (by decide) g2 dJ9_hashCode_1 ?_
  by_cases c3 : i32 (ln b s0 a1) = 0
  · replace h := if_t h c3
    refine gx_lookup (off := 26) 2 28 dJ9_hashCode_2 (by decide) (by rw [c3]; try rfl) (by decide) ?_
    refine gx_iconst 28 dJ9_hashCode_28 ?_
    refine gx_goto 29 51 dJ9_hashCode_29 (by decide) ?_
    exact gx_iret 51 dJ9_hashCode_51 (rt h)
  replace h := if_f h c3
  by_cases c4 : i32 (ln b s0 a1) = 1
  · replace h := if_t h c4
    refine gx_lookup (off := 30) 2 32 dJ9_hashCode_2 (by decide) (by rw [c4]; try rfl) (by decide) ?_
    refine gx_aload_n 32 0 dJ9_hashCode_32 rfl ?_
    refine gx_iconst 33 dJ9_hashCode_33 ?_
    obtain ⟨g5, h⟩ := gd_e h
    obtain ⟨g6, h⟩ := gd_e h
    refine gx_bald 34 g5 g6 dJ9_hashCode_34 ?_
    refine gx_sipush 35 dJ9_hashCode_35 (by decide) ?_
    refine gx_iand 38 dJ9_hashCode_38 ?_
    refine gx_goto 39 51 dJ9_hashCode_39 (by decide) ?_
    exact gx_iret 51 dJ9_hashCode_51 (rt h)
  replace h := if_f h c4
  refine gx_lookup (off := 40) 2 42 dJ9_hashCode_2 (by decide) (by simp [Op.lookupswitch.offset, c3, Ne.symm c3, c4, Ne.symm c4]) (by decide) ?_
  refine gx_aload_n 42 0 dJ9_hashCode_42 rfl ?_
  refine gx_iconst 43 dJ9_hashCode_43 ?_
  refine gx_aload_n 44 0 dJ9_hashCode_44 rfl ?_
  obtain ⟨g7, h⟩ := gd_e h
  refine gx_alen (t := 102) (ty := .byte) 45 (by decide) (by decide) g7 dJ9_hashCode_45 ?_
  refine gx_iconst 46 dJ9_hashCode_46 ?_
  refine gx_iconst 47 dJ9_hashCode_47 ?_
  obtain ⟨z8, ez8, h⟩ := opt_e h
  refine gx_callS (As := [.ref (ad x0 a1), J 0, J (ln b s0 a1), J 0, J 4]) (rest := []) (st' := [J z8.1]) 48 5 (mj10_vectorizedHashCode ez8 l) (lw_S q773 q774 q166 q775) (by decide +kernel) (by decide) rfl rfl (Nat.le_of_ble_eq_true rfl) dJ9_hashCode_48 rfl ?_
  exact gx_iret 51 dJ9_hashCode_51 (rt h)
/-! java/lang/String.hashCode -/
noncomputable def j6_hashCode (b : Bool) (a0 : Int) (s0 : XS) : Option (Int × XS) :=
  gd (tg b s0 a0 = 22) <|
  bnd (s0 a0 2) fun x1_2 =>
  if i32 x1_2 = 0 then
    gd (tg b s0 a0 = 22) <|
    if i32 (s0 a0 3) = 0 then
      gd (tg b s0 a0 = 22) <|
      Option.bind (j6_isLatin1 b a0 s0) fun z6 =>
      bnd (fun (w8 : Int) (s9 : XS) =>
          if i32 w8 = 0 then
            gd (tg b s9 a0 = 22) <|
            gd (0 ≤ a0 ∧ ¬ (1438 ≤ a0 ∧ a0 < 1514)) <|
            bnd (ux s9 a0 3 1) fun s16 =>
            some (w8, s16)
          else
            gd (tg b s9 a0 = 22) <|
            gd (0 ≤ a0 ∧ ¬ (1438 ≤ a0 ∧ a0 < 1514)) <|
            bnd (ux s9 a0 2 w8) fun s13 =>
            some (w8, s13)) fun j17 =>
      if i32 z6.1 = 0 then
        gd (tg b z6.2 a0 = 22) <|
        gd (¬ (z6.2 a0 0) = -1) <|
        none
      else
        gd (tg b z6.2 a0 = 22) <|
        gd (¬ (z6.2 a0 0) = -1) <|
        Option.bind (j9_hashCode b (z6.2 a0 0) z6.2) fun z23 =>
        j17 z23.1 z23.2
    else
      some (x1_2, s0)
  else
    some (x1_2, s0)
theorem mj6_hashCode {b : Bool} {x0 : Nat} {D : XD} {a0 : Int} {s0 : XS} {res : Int × XS} (h : j6_hashCode b a0 s0 = some res) (l : Launch) : XMet0 l yJ6_hashCode cJ6_hashCode 2 (some .int) 4 b x0 D [.ref (ad x0 a0)] s0 1 res := by
  refine XMet0.ofn [(0, .ref (ad x0 a0))] "java/lang/String" "hashCode" rfl rfl (plainFor_of_name (by decide)) (Nat.le_of_ble_eq_true rfl) rfl ?_
  unfold j6_hashCode at h
  generalize nC s0 = cN
  generalize nS s0 = sN
  refine gx_aload_n 0 0 dJ6_hashCode_0 rfl ?_
  obtain ⟨g1, h⟩ := gd_e h
  refine gx_get (t := 22) (k := 2) (v := J (s0 a0 2)) 1 cw22 (by decide) g1 q724 same_f rfl dJ6_hashCode_1 ?_
  obtain ⟨x1_2, ex1_2, h⟩ := bnd_e h
  refine gx_istore_n 4 [(1, J x1_2), (0, .ref (ad x0 a0))] dJ6_hashCode_4 (by decide) ex1_2 rfl ?_
  refine gx_iload_n 5 0 dJ6_hashCode_5 rfl ?_
  refine gx_if_ne 6 58 dJ6_hashCode_6 (by decide) (fun c3 => ?_) (fun c3 => ?_)
  · replace h := if_f h c3
    refine gx_iload_n 58 0 dJ6_hashCode_58 rfl ?_
    exact gx_iret 59 dJ6_hashCode_59 (rt h)
  · replace h := if_t h c3
    refine gx_aload_n 9 1 dJ6_hashCode_9 rfl ?_
    obtain ⟨g4, h⟩ := gd_e h
    refine gx_get (t := 22) (k := 3) (v := J (s0 a0 3)) 10 cw22 (by decide) g4 q725 same_f rfl dJ6_hashCode_10 ?_
    refine gx_if_ne 13 58 dJ6_hashCode_13 (by decide) (fun c5 => ?_) (fun c5 => ?_)
    · replace h := if_f h c5
      refine gx_iload_n 58 0 dJ6_hashCode_58 rfl ?_
      exact gx_iret 59 dJ6_hashCode_59 (rt h)
    · replace h := if_t h c5
      refine gx_aload_n 16 1 dJ6_hashCode_16 rfl ?_
      obtain ⟨g7, h⟩ := gd_e h
      obtain ⟨z6, ez6, h⟩ := opt_e h
      refine gx_callV (As := []) (rest := []) (st' := [J z6.1]) 17 0 cw22 g7 (mj6_isLatin1 ez6 l) (lw_V q766 q767 q768 q162 q769) (by decide +kernel) (by decide) rfl rfl (Nat.le_of_ble_eq_true rfl) dJ6_hashCode_17 rfl ?_
      obtain ⟨j17, ej17, h⟩ := bnd_e h
      have hj17 : ∀ (w8 : Int) (s9 : XS), j17 w8 s9 = some res → GX l cJ6_hashCode "java/lang/String" 2 (some .int) "hashCode" [] x0 D b 1 4 cN sN (0, res) s9 40 [(0, .ref (ad x0 a0))] [J w8] := by
        clear h
        intro w8 s9 h
        subst ej17
        refine gx_istore_n 40 [(1, J w8), (0, .ref (ad x0 a0))] dJ6_hashCode_40 (by decide) rfl rfl ?_
        refine gx_iload_n 41 0 dJ6_hashCode_41 rfl ?_
        refine gx_if_ne 42 53 dJ6_hashCode_42 (by decide) (fun c10 => ?_) (fun c10 => ?_)
        · replace h := if_f h c10
          refine gx_aload_n 53 1 dJ6_hashCode_53 rfl ?_
          refine gx_iload_n 54 0 dJ6_hashCode_54 rfl ?_
          obtain ⟨g11, h⟩ := gd_e h
          obtain ⟨g12, h⟩ := gd_e h
          obtain ⟨s13, es13, h⟩ := bnd_e h
          refine gx_put (t := 22) (k := 2) (x := w8) (ty := .int) 55 cw22 (by decide) g11 g12.1 g12.2 q724 same_f rfl (by decide +kernel) rfl rfl (congrArg J (ux_s _ _ _ _)) es13 dJ6_hashCode_55 ?_
          refine gx_iload_n 58 0 dJ6_hashCode_58 rfl ?_
          exact gx_iret 59 dJ6_hashCode_59 (rt h)
        · replace h := if_t h c10
          refine gx_aload_n 45 1 dJ6_hashCode_45 rfl ?_
          refine gx_iconst 46 dJ6_hashCode_46 ?_
          obtain ⟨g14, h⟩ := gd_e h
          obtain ⟨g15, h⟩ := gd_e h
          obtain ⟨s16, es16, h⟩ := bnd_e h
          refine gx_put (t := 22) (k := 3) (x := 1) (ty := .boolean) 47 cw22 (by decide) g14 g15.1 g15.2 q725 same_f rfl (by decide +kernel) (bz_narrow (by decide)) (bz_fits (by decide)) (congrArg J (ux_s _ _ _ _)) es16 dJ6_hashCode_47 ?_
          refine gx_goto 50 58 dJ6_hashCode_50 (by decide) ?_
          refine gx_iload_n 58 0 dJ6_hashCode_58 rfl ?_
          exact gx_iret 59 dJ6_hashCode_59 (rt h)
      refine gx_if_eq 20 33 dJ6_hashCode_20 (by decide) (fun c18 => ?_) (fun c18 => ?_)
      · replace h := if_t h c18
        refine gx_aload_n 33 1 dJ6_hashCode_33 rfl ?_
        obtain ⟨g19, h⟩ := gd_e h
        obtain ⟨g20, h⟩ := gd_e h
        refine gx_get (t := 22) (k := 0) (v := .ref (ad x0 (z6.2 a0 0))) 34 cw22 (by decide) g19 q722 same_f (rf_ne g20) dJ6_hashCode_34 ?_
        cases h
      · replace h := if_f h c18
        refine gx_aload_n 23 1 dJ6_hashCode_23 rfl ?_
        obtain ⟨g21, h⟩ := gd_e h
        obtain ⟨g22, h⟩ := gd_e h
        refine gx_get (t := 22) (k := 0) (v := .ref (ad x0 (z6.2 a0 0))) 24 cw22 (by decide) g21 q722 same_f (rf_ne g22) dJ6_hashCode_24 ?_
        obtain ⟨z23, ez23, h⟩ := opt_e h
        refine gx_callS (As := [.ref (ad x0 (z6.2 a0 0))]) (rest := []) (st' := [J z23.1]) 27 1 (mj9_hashCode ez23 l) (lw_S q770 q771 q165 q772) (by decide +kernel) (by decide) rfl rfl (Nat.le_of_ble_eq_true rfl) dJ6_hashCode_27 rfl ?_
        refine gx_goto 30 40 dJ6_hashCode_30 (by decide) ?_
        refine gx_sub [1] rfl ?_
        exact hj17 _ _ h
