/-! THE SYSTEM: methods as functions, and their walks (written by xparts.py) -/
set_option maxRecDepth 100000
/-! jdk/internal/util/Preconditions.checkIndex -/
noncomputable def j8_checkIndex (b : Bool) (a1 : Int) (a2 : Int) (a3 : Int) (s0 : XS) : Option (Int × XS) :=
  bnd (fun (x0_4 : Int) (x1_5 : Int) (s6 : XS) =>
      none) fun j7 =>
  if i32 a1 < 0 then
    j7 a1 a2 s0
  else
    if i32 a1 < i32 a2 then
      some (a1, s0)
    else
      j7 a1 a2 s0
theorem mj8_checkIndex {b : Bool} {x0 : Nat} {D : XD} {a1 : Int} {a2 : Int} {a3 : Int} {s0 : XS} {res : Int × XS} (h : j8_checkIndex b a1 a2 a3 s0 = some res) (l : Launch) : XMet0 l yJ8_checkIndex cJ8_checkIndex 3 (some .int) 1 b x0 D [J a1, J a2, rf x0 a3] s0 1 res := by
  refine XMet0.ofn [(0, J a1), (1, J a2), (2, rf x0 a3)] "jdk/internal/util/Preconditions" "checkIndex" rfl rfl (plainFor_of_name (by decide)) (by rcases rf_cases x0 a3 with e0 | ⟨w0, e0⟩ <;> rw [e0] <;> exact Nat.le_of_ble_eq_true rfl) (by rcases rf_cases x0 a3 with e0 | ⟨w0, e0⟩ <;> rw [e0] <;> rfl) ?_
  unfold j8_checkIndex at h
  generalize nC s0 = cN
  generalize nS s0 = sN
  refine gx_iload_n 0 0 dJ8_checkIndex_0 rfl ?_
  obtain ⟨j7, ej7, h⟩ := bnd_e h
  have hj7 : ∀ (x0_4 : Int) (x1_5 : Int) (s6 : XS), j7 x0_4 x1_5 s6 = some res → GX l cJ8_checkIndex "jdk/internal/util/Preconditions" 3 (some .int) "checkIndex" [] x0 D b 1 1 cN sN (0, res) s6 9 [(0, J x0_4), (1, J x1_5), (2, rf x0 a3)] [] := by
    clear h
    intro x0_4 x1_5 s6 h
    subst ej7
    refine gx_aload_nR 9 2 dJ8_checkIndex_9 rfl ?_
    refine gx_iload_n 10 0 dJ8_checkIndex_10 rfl ?_
    refine gx_iload_n 11 1 dJ8_checkIndex_11 rfl ?_
    cases h
  refine gx_if_lt 1 9 dJ8_checkIndex_1 (by decide) (fun c8 => ?_) (fun c8 => ?_)
  · replace h := if_t h c8
    refine gx_sub [0, 1, 2] rfl ?_
    exact hj7 _ _ _ h
  · replace h := if_f h c8
    refine gx_iload_n 4 0 dJ8_checkIndex_4 rfl ?_
    refine gx_iload_n 5 1 dJ8_checkIndex_5 rfl ?_
    refine gx_icmp_lt 6 16 dJ8_checkIndex_6 (by decide) (fun c9 => ?_) (fun c9 => ?_)
    · replace h := if_t h c9
      refine gx_iload_n 16 0 dJ8_checkIndex_16 rfl ?_
      exact gx_iret 17 dJ8_checkIndex_17 (rt h)
    · replace h := if_f h c9
      refine gx_sub [0, 1, 2] rfl ?_
      exact hj7 _ _ _ h
/-! java/util/Objects.checkIndex -/
noncomputable def j11_checkIndex (b : Bool) (a1 : Int) (a2 : Int) (s0 : XS) : Option (Int × XS) :=
  Option.bind (j8_checkIndex b a1 a2 (-1) s0) fun z3 =>
  some (z3.1, z3.2)
theorem mj11_checkIndex {b : Bool} {x0 : Nat} {D : XD} {a1 : Int} {a2 : Int} {s0 : XS} {res : Int × XS} (h : j11_checkIndex b a1 a2 s0 = some res) (l : Launch) : XMet0 l yJ11_checkIndex cJ11_checkIndex 2 (some .int) 2 b x0 D [J a1, J a2] s0 1 res := by
  refine XMet0.ofn [(0, J a1), (1, J a2)] "java/util/Objects" "checkIndex" rfl rfl (plainFor_of_name (by decide)) (Nat.le_of_ble_eq_true rfl) rfl ?_
  unfold j11_checkIndex at h
  generalize nC s0 = cN
  generalize nS s0 = sN
  refine gx_iload_n 0 0 dJ11_checkIndex_0 rfl ?_
  refine gx_iload_n 1 1 dJ11_checkIndex_1 rfl ?_
  refine gx_null 2 dJ11_checkIndex_2 ?_
  obtain ⟨z3, ez3, h⟩ := opt_e h
  refine gx_callS (As := [J a1, J a2, .null]) (rest := []) (st' := [J z3.1]) 3 3 (mj8_checkIndex ez3 l) (lw_S q871 q872 q164 q873) (by decide +kernel) (by decide) rfl rfl (Nat.le_of_ble_eq_true rfl) dJ11_checkIndex_3 rfl ?_
  exact gx_iret 6 dJ11_checkIndex_6 (rt h)
/-! java/lang/Math.max -/
noncomputable def j12_max (b : Bool) (a1 : Int) (a2 : Int) (s0 : XS) : Option (Int × XS) :=
  if i32 a1 < i32 a2 then
    some (a2, s0)
  else
    some (a1, s0)
theorem mj12_max {b : Bool} {x0 : Nat} {D : XD} {a1 : Int} {a2 : Int} {s0 : XS} {res : Int × XS} (h : j12_max b a1 a2 s0 = some res) (l : Launch) : XMet0 l yJ12_max cJ12_max 2 (some .int) 1 b x0 D [J a1, J a2] s0 1 res := by
  refine XMet0.ofn [(0, J a1), (1, J a2)] "java/lang/Math" "max" rfl rfl (by decide +kernel) (Nat.le_of_ble_eq_true rfl) rfl ?_
  unfold j12_max at h
  generalize nC s0 = cN
  generalize nS s0 = sN
  refine gx_iload_n 0 0 dJ12_max_0 rfl ?_
  refine gx_iload_n 1 1 dJ12_max_1 rfl ?_
  refine gx_icmp_lt 2 9 dJ12_max_2 (by decide) (fun c3 => ?_) (fun c3 => ?_)
  · replace h := if_t h c3
    refine gx_iload_n 9 1 dJ12_max_9 rfl ?_
    exact gx_iret 10 dJ12_max_10 (rt h)
  · replace h := if_f h c3
    refine gx_iload_n 5 0 dJ12_max_5 rfl ?_
    refine gx_goto 6 10 dJ12_max_6 (by decide) ?_
    exact gx_iret 10 dJ12_max_10 (rt h)
/-! java/lang/Math.min -/
noncomputable def j12_min (b : Bool) (a1 : Int) (a2 : Int) (s0 : XS) : Option (Int × XS) :=
  if i32 a2 < i32 a1 then
    some (a2, s0)
  else
    some (a1, s0)
theorem mj12_min {b : Bool} {x0 : Nat} {D : XD} {a1 : Int} {a2 : Int} {s0 : XS} {res : Int × XS} (h : j12_min b a1 a2 s0 = some res) (l : Launch) : XMet0 l yJ12_min cJ12_min 2 (some .int) 1 b x0 D [J a1, J a2] s0 1 res := by
  refine XMet0.ofn [(0, J a1), (1, J a2)] "java/lang/Math" "min" rfl rfl (by decide +kernel) (Nat.le_of_ble_eq_true rfl) rfl ?_
  unfold j12_min at h
  generalize nC s0 = cN
  generalize nS s0 = sN
  refine gx_iload_n 0 0 dJ12_min_0 rfl ?_
  refine gx_iload_n 1 1 dJ12_min_1 rfl ?_
  refine gx_icmp_gt 2 9 dJ12_min_2 (by decide) (fun c3 => ?_) (fun c3 => ?_)
  · replace h := if_t h c3
    refine gx_iload_n 9 1 dJ12_min_9 rfl ?_
    exact gx_iret 10 dJ12_min_10 (rt h)
  · replace h := if_f h c3
    refine gx_iload_n 5 0 dJ12_min_5 rfl ?_
    refine gx_goto 6 10 dJ12_min_6 (by decide) ?_
    exact gx_iret 10 dJ12_min_10 (rt h)
/-! java/lang/Math.min_2 -/
noncomputable def j12_min_2 (b : Bool) (a1 : Int) (a2 : Int) (s0 : XS) : Option (Int × XS) :=
  if i64 a2 < i64 a1 then
    some (a2, s0)
  else
    some (a1, s0)
theorem mj12_min_2 {b : Bool} {x0 : Nat} {D : XD} {a1 : Int} {a2 : Int} {s0 : XS} {res : Int × XS} (h : j12_min_2 b a1 a2 s0 = some res) (l : Launch) : XMet0 l yJ12_min_2 cJ12_min_2 4 (some .long) 1 b x0 D [Lg a1, Lg a2] s0 2 res := by
  refine XMet0.ofn [(0, Lg a1), (2, Lg a2)] "java/lang/Math" "min" rfl rfl (by decide +kernel) (Nat.le_of_ble_eq_true rfl) rfl ?_
  unfold j12_min_2 at h
  generalize nC s0 = cN
  generalize nS s0 = sN
  refine gx_lload_n 0 0 dJ12_min_2_0 rfl ?_
  refine gx_lload_n 1 1 dJ12_min_2_1 rfl ?_
  refine gx_lcmp_gt 2 10 dJ12_min_2_2 dJ12_min_2_3 (by decide) (fun c3 => ?_) (fun c3 => ?_)
  · replace h := if_t h c3
    refine gx_lload_n 10 1 dJ12_min_2_10 rfl ?_
    exact gx_lret 11 dJ12_min_2_11 (rt h)
  · replace h := if_f h c3
    refine gx_lload_n 6 0 dJ12_min_2_6 rfl ?_
    refine gx_goto 7 11 dJ12_min_2_7 (by decide) ?_
    exact gx_lret 11 dJ12_min_2_11 (rt h)
/-! java/lang/Math.max_2 -/
noncomputable def j12_max_2 (b : Bool) (a1 : Int) (a2 : Int) (s0 : XS) : Option (Int × XS) :=
  if i64 a1 < i64 a2 then
    some (a2, s0)
  else
    some (a1, s0)
theorem mj12_max_2 {b : Bool} {x0 : Nat} {D : XD} {a1 : Int} {a2 : Int} {s0 : XS} {res : Int × XS} (h : j12_max_2 b a1 a2 s0 = some res) (l : Launch) : XMet0 l yJ12_max_2 cJ12_max_2 4 (some .long) 1 b x0 D [Lg a1, Lg a2] s0 2 res := by
  refine XMet0.ofn [(0, Lg a1), (2, Lg a2)] "java/lang/Math" "max" rfl rfl (by decide +kernel) (Nat.le_of_ble_eq_true rfl) rfl ?_
  unfold j12_max_2 at h
  generalize nC s0 = cN
  generalize nS s0 = sN
  refine gx_lload_n 0 0 dJ12_max_2_0 rfl ?_
  refine gx_lload_n 1 1 dJ12_max_2_1 rfl ?_
  refine gx_lcmp_lt 2 10 dJ12_max_2_2 dJ12_max_2_3 (by decide) (fun c3 => ?_) (fun c3 => ?_)
  · replace h := if_t h c3
    refine gx_lload_n 10 1 dJ12_max_2_10 rfl ?_
    exact gx_lret 11 dJ12_max_2_11 (rt h)
  · replace h := if_f h c3
    refine gx_lload_n 6 0 dJ12_max_2_6 rfl ?_
    refine gx_goto 7 11 dJ12_max_2_7 (by decide) ?_
    exact gx_lret 11 dJ12_max_2_11 (rt h)
/-! java/lang/Math.floorDiv -/
noncomputable def j12_floorDiv (b : Bool) (a1 : Int) (a2 : Int) (s0 : XS) : Option (Int × XS) :=
  gd (¬ i64 a2 = 0) <|
  bnd (ldiv a1 a2) fun x4_4 =>
  bnd (fun (x4_5 : Int) (s6 : XS) =>
      some (x4_5, s6)) fun j7 =>
  if i64 0 ≤ i64 (lxor a1 a2) then
    j7 x4_4 s0
  else
    if i64 (x4_4 * a2) = i64 a1 then
      j7 x4_4 s0
    else
      some ((x4_4 - 1), s0)
theorem mj12_floorDiv {b : Bool} {x0 : Nat} {D : XD} {a1 : Int} {a2 : Int} {s0 : XS} {res : Int × XS} (h : j12_floorDiv b a1 a2 s0 = some res) (l : Launch) : XMet0 l yJ12_floorDiv cJ12_floorDiv 6 (some .long) 1 b x0 D [Lg a1, Lg a2] s0 2 res := by
  refine XMet0.ofn [(0, Lg a1), (2, Lg a2)] "java/lang/Math" "floorDiv" rfl rfl (by decide +kernel) (Nat.le_of_ble_eq_true rfl) rfl ?_
  unfold j12_floorDiv at h
  generalize nC s0 = cN
  generalize nS s0 = sN
  refine gx_lload_n 0 0 dJ12_floorDiv_0 rfl ?_
  refine gx_lload_n 1 1 dJ12_floorDiv_1 rfl ?_
  obtain ⟨g3, h⟩ := gd_e h
  refine gx_ldiv 2 dJ12_floorDiv_2 g3 ?_
  obtain ⟨x4_4, ex4_4, h⟩ := bnd_e h
  refine gx_lstore 3 [(4, Lg x4_4), (0, Lg a1), (2, Lg a2)] dJ12_floorDiv_3 (by decide) ex4_4 rfl ?_
  refine gx_lload_n 5 1 dJ12_floorDiv_5 rfl ?_
  refine gx_lload_n 6 2 dJ12_floorDiv_6 rfl ?_
  refine gx_lxor 7 dJ12_floorDiv_7 ?_
  refine gx_lconst (v := 0) 8 dJ12_floorDiv_8 (by decide) ?_
  obtain ⟨j7, ej7, h⟩ := bnd_e h
  have hj7 : ∀ (x4_5 : Int) (s6 : XS), j7 x4_5 s6 = some res → GX l cJ12_floorDiv "java/lang/Math" 6 (some .long) "floorDiv" [] x0 D b 2 1 cN sN (0, res) s6 27 [(4, Lg x4_5)] [] := by
    clear h
    intro x4_5 s6 h
    subst ej7
    refine gx_lload 27 0 dJ12_floorDiv_27 rfl ?_
    exact gx_lret 29 dJ12_floorDiv_29 (rt h)
  refine gx_lcmp_ge 9 27 dJ12_floorDiv_9 dJ12_floorDiv_10 (by decide) (fun c8 => ?_) (fun c8 => ?_)
  · replace h := if_t h c8
    refine gx_sub [0] rfl ?_
    exact hj7 _ _ h
  · replace h := if_f h c8
    refine gx_lload 13 0 dJ12_floorDiv_13 rfl ?_
    refine gx_lload_n 15 2 dJ12_floorDiv_15 rfl ?_
    refine gx_lmul 16 dJ12_floorDiv_16 ?_
    refine gx_lload_n 17 1 dJ12_floorDiv_17 rfl ?_
    refine gx_lcmp_eq 18 27 dJ12_floorDiv_18 dJ12_floorDiv_19 (by decide) (fun c9 => ?_) (fun c9 => ?_)
    · replace h := if_t h c9
      refine gx_sub [0] rfl ?_
      exact hj7 _ _ h
    · replace h := if_f h c9
      refine gx_lload 22 0 dJ12_floorDiv_22 rfl ?_
      refine gx_lconst (v := 1) 24 dJ12_floorDiv_24 (by decide) ?_
      refine gx_lsub 25 dJ12_floorDiv_25 ?_
      exact gx_lret 26 dJ12_floorDiv_26 (rt h)
/-! java/lang/Math.abs -/
noncomputable def j12_abs (b : Bool) (a1 : Int) (s0 : XS) : Option (Int × XS) :=
  if 0 ≤ i32 a1 then
    some (a1, s0)
  else
    some ((-a1), s0)
theorem mj12_abs {b : Bool} {x0 : Nat} {D : XD} {a1 : Int} {s0 : XS} {res : Int × XS} (h : j12_abs b a1 s0 = some res) (l : Launch) : XMet0 l yJ12_abs cJ12_abs 1 (some .int) 1 b x0 D [J a1] s0 1 res := by
  refine XMet0.ofn [(0, J a1)] "java/lang/Math" "abs" rfl rfl (by decide +kernel) (Nat.le_of_ble_eq_true rfl) rfl ?_
  unfold j12_abs at h
  generalize nC s0 = cN
  generalize nS s0 = sN
  refine gx_iload_n 0 0 dJ12_abs_0 rfl ?_
  refine gx_if_ge 1 9 dJ12_abs_1 (by decide) (fun c2 => ?_) (fun c2 => ?_)
  · replace h := if_t h c2
    refine gx_iload_n 9 0 dJ12_abs_9 rfl ?_
    exact gx_iret 10 dJ12_abs_10 (rt h)
  · replace h := if_f h c2
    refine gx_iload_n 4 0 dJ12_abs_4 rfl ?_
    refine gx_ineg 5 dJ12_abs_5 ?_
    refine gx_goto 6 10 dJ12_abs_6 (by decide) ?_
    exact gx_iret 10 dJ12_abs_10 (rt h)
/-! java/lang/Integer.bitCount -/
noncomputable def j16_bitCount (b : Bool) (a1 : Int) (s0 : XS) : Option (Int × XS) :=
  bnd (a1 - (iand (iushr a1 1) 1431655765)) fun x0_2 =>
  bnd ((iand x0_2 858993459) + (iand (iushr x0_2 2) 858993459)) fun x0_3 =>
  bnd (iand (x0_3 + (iushr x0_3 4)) 252645135) fun x0_4 =>
  bnd (x0_4 + (iushr x0_4 8)) fun x0_5 =>
  bnd (x0_5 + (iushr x0_5 16)) fun x0_6 =>
  some ((iand x0_6 63), s0)
theorem mj16_bitCount {b : Bool} {x0 : Nat} {D : XD} {a1 : Int} {s0 : XS} {res : Int × XS} (h : j16_bitCount b a1 s0 = some res) (l : Launch) : XMet0 l yJ16_bitCount cJ16_bitCount 1 (some .int) 1 b x0 D [J a1] s0 1 res := by
  refine XMet0.ofn [(0, J a1)] "java/lang/Integer" "bitCount" rfl rfl (by decide +kernel) (Nat.le_of_ble_eq_true rfl) rfl ?_
  unfold j16_bitCount at h
  generalize nC s0 = cN
  generalize nS s0 = sN
  refine gx_iload_n 0 0 dJ16_bitCount_0 rfl ?_
  refine gx_iload_n 1 0 dJ16_bitCount_1 rfl ?_
  refine gx_iconst 2 dJ16_bitCount_2 ?_
  refine gx_iushr 3 dJ16_bitCount_3 ?_
  refine gx_ldc_w (v := 1431655765) 4 dJ16_bitCount_4 q1313 (by decide) ?_
  refine gx_iand 7 dJ16_bitCount_7 ?_
  refine gx_isub 8 dJ16_bitCount_8 ?_
  obtain ⟨x0_2, ex0_2, h⟩ := bnd_e h
  refine gx_istore_n 9 [(0, J x0_2)] dJ16_bitCount_9 (by decide) ex0_2 rfl ?_
  refine gx_iload_n 10 0 dJ16_bitCount_10 rfl ?_
  refine gx_ldc_w (v := 858993459) 11 dJ16_bitCount_11 q1314 (by decide) ?_
  refine gx_iand 14 dJ16_bitCount_14 ?_
  refine gx_iload_n 15 0 dJ16_bitCount_15 rfl ?_
  refine gx_iconst 16 dJ16_bitCount_16 ?_
  refine gx_iushr 17 dJ16_bitCount_17 ?_
  refine gx_ldc_w (v := 858993459) 18 dJ16_bitCount_18 q1314 (by decide) ?_
  refine gx_iand 21 dJ16_bitCount_21 ?_
  refine gx_iadd 22 dJ16_bitCount_22 ?_
  obtain ⟨x0_3, ex0_3, h⟩ := bnd_e h
  refine gx_istore_n 23 [(0, J x0_3)] dJ16_bitCount_23 (by decide) ex0_3 rfl ?_
  refine gx_iload_n 24 0 dJ16_bitCount_24 rfl ?_
  refine gx_iload_n 25 0 dJ16_bitCount_25 rfl ?_
  refine gx_iconst 26 dJ16_bitCount_26 ?_
  refine gx_iushr 27 dJ16_bitCount_27 ?_
  refine gx_iadd 28 dJ16_bitCount_28 ?_
  refine gx_ldc_w (v := 252645135) 29 dJ16_bitCount_29 q1315 (by decide) ?_
  refine gx_iand 32 dJ16_bitCount_32 ?_
  obtain ⟨x0_4, ex0_4, h⟩ := bnd_e h
  refine gx_istore_n 33 [(0, J x0_4)] dJ16_bitCount_33 (by decide) ex0_4 rfl ?_
  refine gx_iload_n 34 0 dJ16_bitCount_34 rfl ?_
  refine gx_iload_n 35 0 dJ16_bitCount_35 rfl ?_
  refine gx_bipush 36 dJ16_bitCount_36 (by decide) ?_
  refine gx_iushr 38 dJ16_bitCount_38 ?_
  refine gx_iadd 39 dJ16_bitCount_39 ?_
  obtain ⟨x0_5, ex0_5, h⟩ := bnd_e h
  refine gx_istore_n 40 [(0, J x0_5)] dJ16_bitCount_40 (by decide) ex0_5 rfl ?_
  refine gx_iload_n 41 0 dJ16_bitCount_41 rfl ?_
  refine gx_iload_n 42 0 dJ16_bitCount_42 rfl ?_
  refine gx_bipush 43 dJ16_bitCount_43 (by decide) ?_
  refine gx_iushr 45 dJ16_bitCount_45 ?_
  refine gx_iadd 46 dJ16_bitCount_46 ?_
  obtain ⟨x0_6, ex0_6, h⟩ := bnd_e h
  refine gx_istore_n 47 [(0, J x0_6)] dJ16_bitCount_47 (by decide) ex0_6 rfl ?_
  refine gx_iload_n 48 0 dJ16_bitCount_48 rfl ?_
  refine gx_bipush 49 dJ16_bitCount_49 (by decide) ?_
  refine gx_iand 51 dJ16_bitCount_51 ?_
  exact gx_iret 52 dJ16_bitCount_52 (rt h)
/-! java/util/ArrayList.size -/
noncomputable def j2_size (b : Bool) (a0 : Int) (s0 : XS) : Option (Int × XS) :=
  gd (tg b s0 a0 = 21) <|
  some ((s0 a0 2), s0)
theorem mj2_size {b : Bool} {x0 : Nat} {D : XD} {a0 : Int} {s0 : XS} {res : Int × XS} (h : j2_size b a0 s0 = some res) (l : Launch) : XMet0 l yJ2_size cJ2_size 1 (some .int) 1 b x0 D [.ref (ad x0 a0)] s0 1 res := by
  refine XMet0.ofn [(0, .ref (ad x0 a0))] "java/util/ArrayList" "size" rfl rfl (plainFor_of_name (by decide)) (Nat.le_of_ble_eq_true rfl) rfl ?_
  unfold j2_size at h
  generalize nC s0 = cN
  generalize nS s0 = sN
  refine gx_aload_n 0 0 dJ2_size_0 rfl ?_
  obtain ⟨g1, h⟩ := gd_e h
  refine gx_get (t := 21) (k := 2) (v := J (s0 a0 2)) 1 cw21 (by decide) g1 q220 same_f rfl dJ2_size_1 ?_
  exact gx_iret 4 dJ2_size_4 (rt h)
/-! java/util/ArrayList.elementData -/
noncomputable def j2_elementData (b : Bool) (a0 : Int) (a1 : Int) (s0 : XS) : Option (Int × XS) :=
  gd (tg b s0 a0 = 21) <|
  gd (¬ (s0 a0 1) = -1) <|
  gd (tg b s0 (s0 a0 1) = 110) <|
  gd (ok (ln b s0 (s0 a0 1)) a1) <|
  gd (¬ (s0 (s0 a0 1) (i32 a1)) = -1) <|
  some ((s0 (s0 a0 1) (i32 a1)), s0)
theorem mj2_elementData {b : Bool} {x0 : Nat} {D : XD} {a0 : Int} {a1 : Int} {s0 : XS} {res : Int × XS} (h : j2_elementData b a0 a1 s0 = some res) (l : Launch) : XMet0 l yJ2_elementData cJ2_elementData 2 (some (.object "java/lang/Object")) 1 b x0 D [.ref (ad x0 a0), J a1] s0 3 res := by
  refine XMet0.ofn [(0, .ref (ad x0 a0)), (1, J a1)] "java/util/ArrayList" "elementData" rfl rfl (plainFor_of_name (by decide)) (Nat.le_of_ble_eq_true rfl) rfl ?_
  unfold j2_elementData at h
  generalize nC s0 = cN
  generalize nS s0 = sN
  refine gx_aload_n 0 0 dJ2_elementData_0 rfl ?_
  obtain ⟨g2, h⟩ := gd_e h
  obtain ⟨g3, h⟩ := gd_e h
  refine gx_get (t := 21) (k := 1) (v := .ref (ad x0 (s0 a0 1))) 1 cw21 (by decide) g2 q219 same_f (rf_ne g3) dJ2_elementData_1 ?_
  refine gx_iload_n 4 1 dJ2_elementData_4 rfl ?_
  obtain ⟨g4, h⟩ := gd_e h
  obtain ⟨g5, h⟩ := gd_e h
  obtain ⟨g6, h⟩ := gd_e h
  refine gx_aald (t := 110) (ty := (.object "java/lang/Object")) (r := (s0 (s0 a0 1) (i32 a1))) 5 (by decide) rfl (by decide) g4 g5 rfl g6 dJ2_elementData_5 ?_
  exact gx_aret 6 (Or.inl ⟨_, rfl⟩) dJ2_elementData_6 (rt h)
/-! java/util/ArrayList.get -/
noncomputable def j2_get (b : Bool) (a0 : Int) (a1 : Int) (s0 : XS) : Option (Int × XS) :=
  gd (tg b s0 a0 = 21) <|
  Option.bind (j11_checkIndex b a1 (s0 a0 2) s0) fun z3 =>
  gd (tg b z3.2 a0 = 21) <|
  Option.bind (j2_elementData b a0 a1 z3.2) fun z4 =>
  some (z4.1, z4.2)
theorem mj2_get {b : Bool} {x0 : Nat} {D : XD} {a0 : Int} {a1 : Int} {s0 : XS} {res : Int × XS} (h : j2_get b a0 a1 s0 = some res) (l : Launch) : XMet0 l yJ2_get cJ2_get 2 (some (.object "java/lang/Object")) 3 b x0 D [.ref (ad x0 a0), J a1] s0 3 res := by
  refine XMet0.ofn [(0, .ref (ad x0 a0)), (1, J a1)] "java/util/ArrayList" "get" rfl rfl (plainFor_of_name (by decide)) (Nat.le_of_ble_eq_true rfl) rfl ?_
  unfold j2_get at h
  generalize nC s0 = cN
  generalize nS s0 = sN
  refine gx_iload_n 0 1 dJ2_get_0 rfl ?_
  refine gx_aload_n 1 0 dJ2_get_1 rfl ?_
  obtain ⟨g2, h⟩ := gd_e h
  refine gx_get (t := 21) (k := 2) (v := J (s0 a0 2)) 2 cw21 (by decide) g2 q220 same_f rfl dJ2_get_2 ?_
  obtain ⟨z3, ez3, h⟩ := opt_e h
  refine gx_callS (As := [J a1, J (s0 a0 2)]) (rest := []) (st' := [J z3.1]) 5 2 (mj11_checkIndex ez3 l) (lw_S q868 q869 q168 q870) (by decide +kernel) (by decide) rfl rfl (Nat.le_of_ble_eq_true rfl) dJ2_get_5 rfl ?_
  refine gx_pop 8 dJ2_get_8 rfl ?_
  refine gx_aload_n 9 0 dJ2_get_9 rfl ?_
  refine gx_iload_n 10 1 dJ2_get_10 rfl ?_
  obtain ⟨g5, h⟩ := gd_e h
  obtain ⟨z4, ez4, h⟩ := opt_e h
  refine gx_callV (As := [J a1]) (rest := []) (st' := [.ref (ad x0 z4.1)]) 11 1 cw21 g5 (mj2_elementData ez4 l) (lw_V q874 q875 q876 q151 q877) (by decide +kernel) (by decide) rfl rfl (Nat.le_of_ble_eq_true rfl) dJ2_get_11 rfl ?_
  exact gx_aret 14 (Or.inl ⟨_, rfl⟩) dJ2_get_14 (rt h)
/-! java/lang/String.checkIndex -/
noncomputable def j6_checkIndex (b : Bool) (a1 : Int) (a2 : Int) (s0 : XS) : Option (Int × XS) :=
  Option.bind (j8_checkIndex b a1 a2 (s0 (-1) 106) s0) fun z3 =>
  some (0, z3.2)
theorem mj6_checkIndex {b : Bool} {x0 : Nat} {D : XD} {a1 : Int} {a2 : Int} {s0 : XS} {res : Int × XS} (h : j6_checkIndex b a1 a2 s0 = some res) (l : Launch) : XMet0 l yJ6_checkIndex cJ6_checkIndex 2 none 2 b x0 D [J a1, J a2] s0 0 res := by
  refine XMet0.ofn [(0, J a1), (1, J a2)] "java/lang/String" "checkIndex" rfl rfl (plainFor_of_name (by decide)) (Nat.le_of_ble_eq_true rfl) rfl ?_
  unfold j6_checkIndex at h
  generalize nC s0 = cN
  generalize nS s0 = sN
  refine gx_iload_n 0 0 dJ6_checkIndex_0 rfl ?_
  refine gx_iload_n 1 1 dJ6_checkIndex_1 rfl ?_
  refine gx_getsN 2 6 (List.mem_of_getElem? (i := 5) rfl) q713 dJ6_checkIndex_2 ?_
  obtain ⟨z3, ez3, h⟩ := opt_e h
  refine gx_callS (As := [J a1, J a2, rf x0 (s0 (-1) 106)]) (rest := []) (st' := [J z3.1]) 5 3 (mj8_checkIndex ez3 l) (lw_S q1255 q872 q164 q873) (by decide +kernel) (by decide) rfl rfl (Nat.le_of_ble_eq_true rfl) dJ6_checkIndex_5 rfl ?_
  refine gx_pop 8 dJ6_checkIndex_8 rfl ?_
  exact gx_vret 9 dJ6_checkIndex_9 (rt h)
/-! java/lang/StringLatin1.charAt -/
noncomputable def j9_charAt (b : Bool) (a1 : Int) (a2 : Int) (s0 : XS) : Option (Int × XS) :=
  gd (tg b s0 a1 = 102) <|
  Option.bind (j6_checkIndex b a2 (ln b s0 a1) s0) fun z4 =>
  gd (tg b z4.2 a1 = 102) <|
  gd (ok (ln b z4.2 a1) a2) <|
  gd (0 ≤ i32 (u16 (iand (z4.2 a1 (i32 a2)) 255)) ∧ i32 (u16 (iand (z4.2 a1 (i32 a2)) 255)) < 65536) <|
  some ((u16 (iand (z4.2 a1 (i32 a2)) 255)), z4.2)
theorem mj9_charAt {b : Bool} {x0 : Nat} {D : XD} {a1 : Int} {a2 : Int} {s0 : XS} {res : Int × XS} (h : j9_charAt b a1 a2 s0 = some res) (l : Launch) : XMet0 l yJ9_charAt cJ9_charAt 2 (some .char) 3 b x0 D [.ref (ad x0 a1), J a2] s0 1 res := by
  refine XMet0.ofn [(0, .ref (ad x0 a1)), (1, J a2)] "java/lang/StringLatin1" "charAt" rfl rfl (plainFor_of_name (by decide)) (Nat.le_of_ble_eq_true rfl) rfl ?_
  unfold j9_charAt at h
  generalize nC s0 = cN
  generalize nS s0 = sN
  refine gx_iload_n 0 1 dJ9_charAt_0 rfl ?_
  refine gx_aload_n 1 0 dJ9_charAt_1 rfl ?_
  obtain ⟨g3, h⟩ := gd_e h
  refine gx_alen (t := 102) (ty := .byte) 2 (by decide) (by decide) g3 dJ9_charAt_2 ?_
  obtain ⟨z4, ez4, h⟩ := opt_e h
  refine gx_callS (As := [J a2, J (ln b s0 a1)]) (rest := []) (st' := []) 3 2 (mj6_checkIndex ez4 l) (lw_S q1338 q1253 q162 q1254) (by decide +kernel) (by decide) rfl rfl (Nat.le_of_ble_eq_true rfl) dJ9_charAt_3 rfl ?_
  refine gx_aload_n 6 0 dJ9_charAt_6 rfl ?_
  refine gx_iload_n 7 1 dJ9_charAt_7 rfl ?_
  obtain ⟨g5, h⟩ := gd_e h
  obtain ⟨g6, h⟩ := gd_e h
  refine gx_bald 8 g5 g6 dJ9_charAt_8 ?_
  refine gx_sipush 9 dJ9_charAt_9 (by decide) ?_
  refine gx_iand 12 dJ9_charAt_12 ?_
  refine gx_i2c 13 dJ9_charAt_13 ?_
  obtain ⟨g7, h⟩ := gd_e h
  exact gx_cret 14 dJ9_charAt_14 g7 (rt h)
/-! java/lang/AbstractStringBuilder.charAt -/
noncomputable def j14_charAt (b : Bool) (a0 : Int) (a1 : Int) (s0 : XS) : Option (Int × XS) :=
  gd (tg b s0 a0 = 23) <|
  bnd (s0 a0 1) fun x2_3 =>
  gd (tg b s0 a0 = 23) <|
  gd (¬ (s0 a0 0) = -1) <|
  bnd (s0 a0 0) fun x3_6 =>
  gd (tg b s0 a0 = 23) <|
  gd (tg b s0 x3_6 = 102) <|
  Option.bind (j12_min b (s0 a0 3) (ishr (ln b s0 x3_6) x2_3) s0) fun z9 =>
  bnd z9.1 fun x4_10 =>
  Option.bind (j6_checkIndex b a1 x4_10 z9.2) fun z11 =>
  if i32 x2_3 = 0 then
    gd (tg b z11.2 x3_6 = 102) <|
    gd (ok (ln b z11.2 x3_6) a1) <|
    gd (0 ≤ i32 (u16 (iand (z11.2 x3_6 (i32 a1)) 255)) ∧ i32 (u16 (iand (z11.2 x3_6 (i32 a1)) 255)) < 65536) <|
    some ((u16 (iand (z11.2 x3_6 (i32 a1)) 255)), z11.2)
  else
    none
theorem mj14_charAt {b : Bool} {x0 : Nat} {D : XD} {a0 : Int} {a1 : Int} {s0 : XS} {res : Int × XS} (h : j14_charAt b a0 a1 s0 = some res) (l : Launch) : XMet0 l yJ14_charAt cJ14_charAt 5 (some .char) 3 b x0 D [.ref (ad x0 a0), J a1] s0 1 res := by
  refine XMet0.ofn [(0, .ref (ad x0 a0)), (1, J a1)] "java/lang/AbstractStringBuilder" "charAt" rfl rfl (plainFor_of_name (by decide)) (Nat.le_of_ble_eq_true rfl) rfl ?_
  unfold j14_charAt at h
  generalize nC s0 = cN
  generalize nS s0 = sN
  refine gx_aload_n 0 0 dJ14_charAt_0 rfl ?_
  obtain ⟨g2, h⟩ := gd_e h
  refine gx_get (t := 23) (k := 1) (v := J (s0 a0 1)) 1 cw23 (by decide) g2 q1105 same_f rfl dJ14_charAt_1 ?_
  obtain ⟨x2_3, ex2_3, h⟩ := bnd_e h
  refine gx_istore_n 4 [(2, J x2_3), (0, .ref (ad x0 a0)), (1, J a1)] dJ14_charAt_4 (by decide) ex2_3 rfl ?_
  refine gx_aload_n 5 1 dJ14_charAt_5 rfl ?_
  obtain ⟨g4, h⟩ := gd_e h
  obtain ⟨g5, h⟩ := gd_e h
  refine gx_get (t := 23) (k := 0) (v := .ref (ad x0 (s0 a0 0))) 6 cw23 (by decide) g4 q1104 same_f (rf_ne g5) dJ14_charAt_6 ?_
  obtain ⟨x3_6, ex3_6, h⟩ := bnd_e h
  refine gx_astore_nv 9 [(3, .ref (ad x0 x3_6)), (2, J x2_3), (0, .ref (ad x0 a0)), (1, J a1)] dJ14_charAt_9 (by decide) ex3_6 rfl ?_
  refine gx_aload_n 10 2 dJ14_charAt_10 rfl ?_
  obtain ⟨g7, h⟩ := gd_e h
  refine gx_get (t := 23) (k := 3) (v := J (s0 a0 3)) 11 cw23 (by decide) g7 q1106 same_f rfl dJ14_charAt_11 ?_
  refine gx_aload_n 14 0 dJ14_charAt_14 rfl ?_
  obtain ⟨g8, h⟩ := gd_e h
  refine gx_alen (t := 102) (ty := .byte) 15 (by decide) (by decide) g8 dJ14_charAt_15 ?_
  refine gx_iload_n 16 1 dJ14_charAt_16 rfl ?_
  refine gx_ishr 17 dJ14_charAt_17 ?_
  obtain ⟨z9, ez9, h⟩ := opt_e h
  refine gx_callS (As := [J (s0 a0 3), J (ishr (ln b s0 x3_6) x2_3)]) (rest := []) (st' := [J z9.1]) 18 2 (mj12_min ez9 l) (lw_S q1440 q982 q170 q983) (by decide +kernel) (by decide) rfl rfl (Nat.le_of_ble_eq_true rfl) dJ14_charAt_18 rfl ?_
  obtain ⟨x4_10, ex4_10, h⟩ := bnd_e h
  refine gx_istore 21 [(4, J x4_10), (3, .ref (ad x0 x3_6)), (2, J x2_3), (0, .ref (ad x0 a0)), (1, J a1)] dJ14_charAt_21 (by decide) ex4_10 rfl ?_
  refine gx_iload_n 23 4 dJ14_charAt_23 rfl ?_
  refine gx_iload 24 0 dJ14_charAt_24 rfl ?_
  obtain ⟨z11, ez11, h⟩ := opt_e h
  refine gx_callS (As := [J a1, J x4_10]) (rest := []) (st' := []) 26 2 (mj6_checkIndex ez11 l) (lw_S q1441 q1253 q162 q1254) (by decide +kernel) (by decide) rfl rfl (Nat.le_of_ble_eq_true rfl) dJ14_charAt_26 rfl ?_
  refine gx_iload_n 29 2 dJ14_charAt_29 rfl ?_
  refine gx_if_ne 30 42 dJ14_charAt_30 (by decide) (fun c12 => ?_) (fun c12 => ?_)
  · replace h := if_f h c12
    refine gx_aload_n 42 1 dJ14_charAt_42 rfl ?_
    refine gx_iload_n 43 4 dJ14_charAt_43 rfl ?_
    cases h
  · replace h := if_t h c12
    refine gx_aload_n 33 1 dJ14_charAt_33 rfl ?_
    refine gx_iload_n 34 4 dJ14_charAt_34 rfl ?_
    obtain ⟨g13, h⟩ := gd_e h
    obtain ⟨g14, h⟩ := gd_e h
    refine gx_bald 35 g13 g14 dJ14_charAt_35 ?_
    refine gx_sipush 36 dJ14_charAt_36 (by decide) ?_
    refine gx_iand 39 dJ14_charAt_39 ?_
    refine gx_i2c 40 dJ14_charAt_40 ?_
    obtain ⟨g15, h⟩ := gd_e h
    exact gx_cret 41 dJ14_charAt_41 g15 (rt h)
/-! java/lang/StringBuilder.charAt -/
noncomputable def j15_charAt (b : Bool) (a0 : Int) (a1 : Int) (s0 : XS) : Option (Int × XS) :=
  gd (tg b s0 a0 = 23) <|
  Option.bind (j14_charAt b a0 a1 s0) fun z2 =>
  gd (0 ≤ i32 z2.1 ∧ i32 z2.1 < 65536) <|
  some (z2.1, z2.2)
theorem mj15_charAt {b : Bool} {x0 : Nat} {D : XD} {a0 : Int} {a1 : Int} {s0 : XS} {res : Int × XS} (h : j15_charAt b a0 a1 s0 = some res) (l : Launch) : XMet0 l yJ15_charAt cJ15_charAt 2 (some .char) 4 b x0 D [.ref (ad x0 a0), J a1] s0 1 res := by
  refine XMet0.ofn [(0, .ref (ad x0 a0)), (1, J a1)] "java/lang/StringBuilder" "charAt" rfl rfl (plainFor_of_name (by decide)) (Nat.le_of_ble_eq_true rfl) rfl ?_
  unfold j15_charAt at h
  generalize nC s0 = cN
  generalize nS s0 = sN
  refine gx_aload_n 0 0 dJ15_charAt_0 rfl ?_
  refine gx_iload_n 1 1 dJ15_charAt_1 rfl ?_
  obtain ⟨g3, h⟩ := gd_e h
  obtain ⟨z2, ez2, h⟩ := opt_e h
  refine gx_callSU (As := [J a1]) (rest := []) (st' := [J z2.1]) 2 1 cw23 g3 (mj14_charAt ez2 l) (lw_app (lw_in5 q1437 q2628 q1115 q1438 q180) (lw_meth q1439)) (by decide +kernel) (by decide) rfl rfl (Nat.le_of_ble_eq_true rfl) dJ15_charAt_2 rfl ?_
  obtain ⟨g4, h⟩ := gd_e h
  exact gx_cret 5 dJ15_charAt_5 g4 (rt h)
/-! java/lang/String.isLatin1 -/
noncomputable def j6_isLatin1 (b : Bool) (a0 : Int) (s0 : XS) : Option (Int × XS) :=
  if i32 1 = 0 then
    some (0, s0)
  else
    gd (tg b s0 a0 = 22) <|
    if i32 (s0 a0 1) = 0 then
      some (1, s0)
    else
      some (0, s0)
theorem mj6_isLatin1 {b : Bool} {x0 : Nat} {D : XD} {a0 : Int} {s0 : XS} {res : Int × XS} (h : j6_isLatin1 b a0 s0 = some res) (l : Launch) : XMet0 l yJ6_isLatin1 cJ6_isLatin1 1 (some .boolean) 1 b x0 D [.ref (ad x0 a0)] s0 1 res := by
  refine XMet0.ofn [(0, .ref (ad x0 a0))] "java/lang/String" "isLatin1" rfl rfl (plainFor_of_name (by decide)) (Nat.le_of_ble_eq_true rfl) rfl ?_
  unfold j6_isLatin1 at h
  generalize nC s0 = cN
  generalize nS s0 = sN
  refine gx_getsJ (v := 1) 0 (List.mem_of_getElem? (i := 0) rfl) q671 dJ6_isLatin1_0 ?_
  refine gx_if_eq 3 17 dJ6_isLatin1_3 (by decide) (fun c1 => ?_) (fun c1 => ?_)
  · replace h := if_t h c1
    refine gx_iconst 17 dJ6_isLatin1_17 ?_
    exact gx_zret 18 dJ6_isLatin1_18 (by decide) (rt h)
  · replace h := if_f h c1
    refine gx_aload_n 6 0 dJ6_isLatin1_6 rfl ?_
    obtain ⟨g2, h⟩ := gd_e h
    refine gx_get (t := 22) (k := 1) (v := J (s0 a0 1)) 7 cw22 (by decide) g2 q723 same_f rfl dJ6_isLatin1_7 ?_
    refine gx_if_ne 10 17 dJ6_isLatin1_10 (by decide) (fun c3 => ?_) (fun c3 => ?_)
    · replace h := if_f h c3
      refine gx_iconst 17 dJ6_isLatin1_17 ?_
      exact gx_zret 18 dJ6_isLatin1_18 (by decide) (rt h)
    · replace h := if_t h c3
      refine gx_iconst 13 dJ6_isLatin1_13 ?_
      refine gx_goto 14 18 dJ6_isLatin1_14 (by decide) ?_
      exact gx_zret 18 dJ6_isLatin1_18 (by decide) (rt h)
/-! java/lang/String.coder -/
noncomputable def j6_coder (b : Bool) (a0 : Int) (s0 : XS) : Option (Int × XS) :=
  if i32 1 = 0 then
    gd (i8 1 = i32 1) <|
    some (1, s0)
  else
    gd (tg b s0 a0 = 22) <|
    gd (i8 (s0 a0 1) = i32 (s0 a0 1)) <|
    some ((s0 a0 1), s0)
theorem mj6_coder {b : Bool} {x0 : Nat} {D : XD} {a0 : Int} {s0 : XS} {res : Int × XS} (h : j6_coder b a0 s0 = some res) (l : Launch) : XMet0 l yJ6_coder cJ6_coder 1 (some .byte) 1 b x0 D [.ref (ad x0 a0)] s0 1 res := by
  refine XMet0.ofn [(0, .ref (ad x0 a0))] "java/lang/String" "coder" rfl rfl (plainFor_of_name (by decide)) (Nat.le_of_ble_eq_true rfl) rfl ?_
  unfold j6_coder at h
  generalize nC s0 = cN
  generalize nS s0 = sN
  refine gx_getsJ (v := 1) 0 (List.mem_of_getElem? (i := 0) rfl) q671 dJ6_coder_0 ?_
  refine gx_if_eq 3 13 dJ6_coder_3 (by decide) (fun c1 => ?_) (fun c1 => ?_)
  · replace h := if_t h c1
    refine gx_iconst 13 dJ6_coder_13 ?_
    obtain ⟨g2, h⟩ := gd_e h
    exact gx_bret 14 dJ6_coder_14 g2 (rt h)
  · replace h := if_f h c1
    refine gx_aload_n 6 0 dJ6_coder_6 rfl ?_
    obtain ⟨g3, h⟩ := gd_e h
    refine gx_get (t := 22) (k := 1) (v := J (s0 a0 1)) 7 cw22 (by decide) g3 q723 same_f rfl dJ6_coder_7 ?_
    refine gx_goto 10 14 dJ6_coder_10 (by decide) ?_
    obtain ⟨g4, h⟩ := gd_e h
    exact gx_bret 14 dJ6_coder_14 g4 (rt h)
/-! java/lang/String.length -/
noncomputable def j6_length (b : Bool) (a0 : Int) (s0 : XS) : Option (Int × XS) :=
  gd (tg b s0 a0 = 22) <|
  gd (¬ (s0 a0 0) = -1) <|
  gd (tg b s0 (s0 a0 0) = 102) <|
  gd (tg b s0 a0 = 22) <|
  Option.bind (j6_coder b a0 s0) fun z4 =>
  some ((ishr (ln b s0 (s0 a0 0)) z4.1), z4.2)
theorem mj6_length {b : Bool} {x0 : Nat} {D : XD} {a0 : Int} {s0 : XS} {res : Int × XS} (h : j6_length b a0 s0 = some res) (l : Launch) : XMet0 l yJ6_length cJ6_length 1 (some .int) 2 b x0 D [.ref (ad x0 a0)] s0 1 res := by
  refine XMet0.ofn [(0, .ref (ad x0 a0))] "java/lang/String" "length" rfl rfl (plainFor_of_name (by decide)) (Nat.le_of_ble_eq_true rfl) rfl ?_
  unfold j6_length at h
  generalize nC s0 = cN
  generalize nS s0 = sN
  refine gx_aload_n 0 0 dJ6_length_0 rfl ?_
  obtain ⟨g1, h⟩ := gd_e h
  obtain ⟨g2, h⟩ := gd_e h
  refine gx_get (t := 22) (k := 0) (v := .ref (ad x0 (s0 a0 0))) 1 cw22 (by decide) g1 q722 same_f (rf_ne g2) dJ6_length_1 ?_
  obtain ⟨g3, h⟩ := gd_e h
  refine gx_alen (t := 102) (ty := .byte) 4 (by decide) (by decide) g3 dJ6_length_4 ?_
  refine gx_aload_n 5 0 dJ6_length_5 rfl ?_
  obtain ⟨g5, h⟩ := gd_e h
  obtain ⟨z4, ez4, h⟩ := opt_e h
  refine gx_callV (As := []) (rest := [J (ln b s0 (s0 a0 0))]) (st' := [J z4.1, J (ln b s0 (s0 a0 0))]) 6 0 cw22 g5 (mj6_coder ez4 l) (lw_V q846 q847 q848 q162 q849) (by decide +kernel) (by decide) rfl rfl (Nat.le_of_ble_eq_true rfl) dJ6_length_6 rfl ?_
  refine gx_ishr 9 dJ6_length_9 ?_
  exact gx_iret 10 dJ6_length_10 (rt h)
/-! java/lang/StringLatin1.equals -/
noncomputable def j9_equals_L9 (b : Bool) (a1 : Int) (a2 : Int) (k32 : XS → Option (Int × XS)) (k24 : XS → Option (Int × XS)) : Nat → Int → XS → Option (Int × XS)
  | 0, _, _ => none
  | n + 1, x2_7, s8 =>
    gd (tg b s8 a1 = 102) <|
    if i32 (ln b s8 a1) ≤ i32 x2_7 then
      k32 s8
    else
      gd (tg b s8 a1 = 102) <|
      gd (ok (ln b s8 a1) x2_7) <|
      gd (tg b s8 a2 = 102) <|
      gd (ok (ln b s8 a2) x2_7) <|
      if i32 (s8 a1 (i32 x2_7)) = i32 (s8 a2 (i32 x2_7)) then
        bnd (x2_7 + 1) fun x2_18 =>
        j9_equals_L9 b a1 a2 k32 k24 n x2_18 s8
      else
        k24 s8
noncomputable def j9_equals (b : Bool) (a1 : Int) (a2 : Int) (s0 : XS) : Option (Int × XS) :=
  gd (tg b s0 a1 = 102) <|
  gd (tg b s0 a2 = 102) <|
  if i32 (ln b s0 a1) = i32 (ln b s0 a2) then
    bnd 0 fun x2_6 =>
    j9_equals_L9 b a1 a2
      (fun (s19 : XS) =>
        some (1, s19))
      (fun (s20 : XS) =>
        some (0, s20))
      FU x2_6 s0
  else
    some (0, s0)
theorem wj9_equals_L9 {l : Launch} {x0 : Nat} {D : XD} {cN sN : Nat} {res : Int × XS} {b : Bool} {a1 : Int} {a2 : Int} {k32 : XS → Option (Int × XS)} {k24 : XS → Option (Int × XS)} (hk32 : ∀ (s9 : XS), k32 s9 = some res → GX l cJ9_equals "java/lang/StringLatin1" 3 (some .boolean) "equals" [] x0 D b 1 1 cN sN (0, res) s9 32 [] []) (hk24 : ∀ (s10 : XS), k24 s10 = some res → GX l cJ9_equals "java/lang/StringLatin1" 3 (some .boolean) "equals" [] x0 D b 1 1 cN sN (0, res) s10 24 [] []) : ∀ (n : Nat) (x2_7 : Int) (s8 : XS), j9_equals_L9 b a1 a2 k32 k24 n x2_7 s8 = some res → GX l cJ9_equals "java/lang/StringLatin1" 3 (some .boolean) "equals" [] x0 D b 1 1 cN sN (0, res) s8 9 [(0, .ref (ad x0 a1)), (1, .ref (ad x0 a2)), (2, J x2_7)] [] := by
  intro n
  induction n with
  | zero =>
    intro x2_7 s8 h
    cases h
  | succ n ih =>
    intro x2_7 s8 h
    rw [j9_equals_L9] at h
    refine gx_iload_n 9 2 dJ9_equals_9 rfl ?_
    refine gx_aload_n 10 0 dJ9_equals_10 rfl ?_
    obtain ⟨g11, h⟩ := gd_e h
    refine gx_alen (t := 102) (ty := .byte) 11 (by decide) (by decide) g11 dJ9_equals_11 ?_
    refine gx_icmp_ge 12 32 dJ9_equals_12 (by decide) (fun c12 => ?_) (fun c12 => ?_)
    · replace h := if_t h c12
      refine gx_sub [] rfl ?_
      exact hk32 _ h
    · replace h := if_f h c12
      refine gx_aload_n 15 0 dJ9_equals_15 rfl ?_
      refine gx_iload_n 16 2 dJ9_equals_16 rfl ?_
      obtain ⟨g13, h⟩ := gd_e h
      obtain ⟨g14, h⟩ := gd_e h
      refine gx_bald 17 g13 g14 dJ9_equals_17 ?_
      refine gx_aload_n 18 1 dJ9_equals_18 rfl ?_
      refine gx_iload_n 19 2 dJ9_equals_19 rfl ?_
      obtain ⟨g15, h⟩ := gd_e h
      obtain ⟨g16, h⟩ := gd_e h
      refine gx_bald 20 g15 g16 dJ9_equals_20 ?_
      refine gx_icmp_eq 21 26 dJ9_equals_21 (by decide) (fun c17 => ?_) (fun c17 => ?_)
      · replace h := if_t h c17
        obtain ⟨x2_18, ex2_18, h⟩ := bnd_e h
        refine gx_iinc 26 2 [(2, J x2_18), (0, .ref (ad x0 a1)), (1, .ref (ad x0 a2))] dJ9_equals_26 rfl ex2_18 (by decide) rfl ?_
        refine gx_goto 29 9 dJ9_equals_29 (by decide) ?_
        refine gx_sub [1, 2, 0] rfl ?_
        exact ih _ _ h
      · replace h := if_f h c17
        refine gx_sub [] rfl ?_
        exact hk24 _ h
theorem mj9_equals {b : Bool} {x0 : Nat} {D : XD} {a1 : Int} {a2 : Int} {s0 : XS} {res : Int × XS} (h : j9_equals b a1 a2 s0 = some res) (l : Launch) : XMet0 l yJ9_equals cJ9_equals 3 (some .boolean) 1 b x0 D [.ref (ad x0 a1), .ref (ad x0 a2)] s0 1 res := by
  refine XMet0.ofn [(0, .ref (ad x0 a1)), (1, .ref (ad x0 a2))] "java/lang/StringLatin1" "equals" rfl rfl (plainFor_of_name (by decide)) (Nat.le_of_ble_eq_true rfl) rfl ?_
  unfold j9_equals at h
  generalize nC s0 = cN
  generalize nS s0 = sN
  refine gx_aload_n 0 0 dJ9_equals_0 rfl ?_
  obtain ⟨g3, h⟩ := gd_e h
  refine gx_alen (t := 102) (ty := .byte) 1 (by decide) (by decide) g3 dJ9_equals_1 ?_
  refine gx_aload_n 2 1 dJ9_equals_2 rfl ?_
  obtain ⟨g4, h⟩ := gd_e h
  refine gx_alen (t := 102) (ty := .byte) 3 (by decide) (by decide) g4 dJ9_equals_3 ?_
  refine gx_icmp_ne 4 34 dJ9_equals_4 (by decide) (fun c5 => ?_) (fun c5 => ?_)
  · replace h := if_f h c5
    refine gx_iconst 34 dJ9_equals_34 ?_
    exact gx_zret 35 dJ9_equals_35 (by decide) (rt h)
  · replace h := if_t h c5
    refine gx_iconst 7 dJ9_equals_7 ?_
    obtain ⟨x2_6, ex2_6, h⟩ := bnd_e h
    refine gx_istore_n 8 [(2, J x2_6), (0, .ref (ad x0 a1)), (1, .ref (ad x0 a2))] dJ9_equals_8 (by decide) ex2_6 rfl ?_
    refine gx_sub [1, 2, 0] rfl ?_
    refine wj9_equals_L9 (fun s19 h => ?_) (fun s20 h => ?_) FU _ _ h
    · refine gx_iconst 32 dJ9_equals_32 ?_
      exact gx_zret 33 dJ9_equals_33 (by decide) (rt h)
    · refine gx_iconst 24 dJ9_equals_24 ?_
      exact gx_zret 25 dJ9_equals_25 (by decide) (rt h)
/-! java/lang/String.equals -/
noncomputable def j6_equals (b : Bool) (a0 : Int) (a1 : Int) (s0 : XS) : Option (Int × XS) :=
  gd (¬ a0 = -1) <|
  gd (¬ a1 = -1) <|
  gd (0 ≤ a0 ∨ 0 ≤ a1) <|
  if a0 = a1 then
    some (1, s0)
  else
    gd (tg b s0 a1 = 22) <|
    if i32 1 = 0 then
      some (0, s0)
    else
      gd (tg b s0 a1 = 22) <|
      bnd (fun (x2_9 : Int) (s10 : XS) =>
          gd (tg b s10 a0 = 22) <|
          gd (¬ (s10 a0 0) = -1) <|
          gd (tg b s10 x2_9 = 22) <|
          gd (¬ (s10 x2_9 0) = -1) <|
          Option.bind (j9_equals b (s10 a0 0) (s10 x2_9 0) s10) fun z15 =>
          if i32 z15.1 = 0 then
            some (0, z15.2)
          else
            some (1, z15.2)) fun j17 =>
      if i32 1 = 0 then
        j17 a1 s0
      else
        gd (tg b s0 a0 = 22) <|
        gd (tg b s0 a1 = 22) <|
        if i32 (s0 a0 1) = i32 (s0 a1 1) then
          j17 a1 s0
        else
          some (0, s0)
theorem mj6_equals {b : Bool} {x0 : Nat} {D : XD} {a0 : Int} {a1 : Int} {s0 : XS} {res : Int × XS} (h : j6_equals b a0 a1 s0 = some res) (l : Launch) : XMet0 l yJ6_equals cJ6_equals 3 (some .boolean) 2 b x0 D [.ref (ad x0 a0), .ref (ad x0 a1)] s0 1 res := by
  refine XMet0.ofn [(0, .ref (ad x0 a0)), (1, .ref (ad x0 a1))] "java/lang/String" "equals" rfl rfl (plainFor_of_name (by decide)) (Nat.le_of_ble_eq_true rfl) rfl ?_
  unfold j6_equals at h
  generalize nC s0 = cN
  generalize nS s0 = sN
  refine gx_aload_n 0 0 dJ6_equals_0 rfl ?_
  refine gx_aload_n 1 1 dJ6_equals_1 rfl ?_
  obtain ⟨g2, h⟩ := gd_e h
  obtain ⟨g3, h⟩ := gd_e h
  obtain ⟨g4, h⟩ := gd_e h
  refine gx_acmp_ne 2 7 g2 g3 g4 (Or.inr trivial) dJ6_equals_2 (by decide) (fun c5 => ?_) (fun c5 => ?_)
  · replace h := if_f h c5
    refine gx_aload_n 7 1 dJ6_equals_7 rfl ?_
    obtain ⟨g6, h⟩ := gd_e h
    refine gx_instS 8 cw22 g6 q661 dJ6_equals_8 ?_
    refine gx_if_eq 11 54 dJ6_equals_11 (by decide) (fun c7 => ?_) (fun c7 => ?_)
    · replace h := if_t h c7
      refine gx_iconst 54 dJ6_equals_54 ?_
      exact gx_zret 55 dJ6_equals_55 (by decide) (rt h)
    · replace h := if_f h c7
      refine gx_aload_n 14 1 dJ6_equals_14 rfl ?_
      obtain ⟨g8, h⟩ := gd_e h
      refine gx_castS 15 cw22 g8 q661 dJ6_equals_15 ?_
      refine gx_astore_nv 18 [(2, .ref (ad x0 a1)), (0, .ref (ad x0 a0)), (1, .ref (ad x0 a1))] dJ6_equals_18 (by decide) rfl rfl ?_
      refine gx_getsJ (v := 1) 19 (List.mem_of_getElem? (i := 0) rfl) q671 dJ6_equals_19 ?_
      obtain ⟨j17, ej17, h⟩ := bnd_e h
      have hj17 : ∀ (x2_9 : Int) (s10 : XS), j17 x2_9 s10 = some res → GX l cJ6_equals "java/lang/String" 3 (some .boolean) "equals" [] x0 D b 1 2 cN sN (0, res) s10 36 [(0, .ref (ad x0 a0)), (2, .ref (ad x0 x2_9))] [] := by
        clear h
        intro x2_9 s10 h
        subst ej17
        refine gx_aload_n 36 0 dJ6_equals_36 rfl ?_
        obtain ⟨g11, h⟩ := gd_e h
        obtain ⟨g12, h⟩ := gd_e h
        refine gx_get (t := 22) (k := 0) (v := .ref (ad x0 (s10 a0 0))) 37 cw22 (by decide) g11 q722 same_f (rf_ne g12) dJ6_equals_37 ?_
        refine gx_aload_n 40 1 dJ6_equals_40 rfl ?_
        obtain ⟨g13, h⟩ := gd_e h
        obtain ⟨g14, h⟩ := gd_e h
        refine gx_get (t := 22) (k := 0) (v := .ref (ad x0 (s10 x2_9 0))) 41 cw22 (by decide) g13 q722 same_f (rf_ne g14) dJ6_equals_41 ?_
        obtain ⟨z15, ez15, h⟩ := opt_e h
        refine gx_callS (As := [.ref (ad x0 (s10 a0 0)), .ref (ad x0 (s10 x2_9 0))]) (rest := []) (st' := [J z15.1]) 44 2 (mj9_equals ez15 l) (lw_S q740 q741 q165 q742) (by decide +kernel) (by decide) rfl rfl (Nat.le_of_ble_eq_true rfl) dJ6_equals_44 rfl ?_
        refine gx_if_eq 47 54 dJ6_equals_47 (by decide) (fun c16 => ?_) (fun c16 => ?_)
        · replace h := if_t h c16
          refine gx_iconst 54 dJ6_equals_54 ?_
          exact gx_zret 55 dJ6_equals_55 (by decide) (rt h)
        · replace h := if_f h c16
          refine gx_iconst 50 dJ6_equals_50 ?_
          refine gx_goto 51 55 dJ6_equals_51 (by decide) ?_
          exact gx_zret 55 dJ6_equals_55 (by decide) (rt h)
      refine gx_if_eq 22 36 dJ6_equals_22 (by decide) (fun c18 => ?_) (fun c18 => ?_)
      · replace h := if_t h c18
        refine gx_sub [1, 0] rfl ?_
        exact hj17 _ _ h
      · replace h := if_f h c18
        refine gx_aload_n 25 1 dJ6_equals_25 rfl ?_
        obtain ⟨g19, h⟩ := gd_e h
        refine gx_get (t := 22) (k := 1) (v := J (s0 a0 1)) 26 cw22 (by decide) g19 q723 same_f rfl dJ6_equals_26 ?_
        refine gx_aload_n 29 0 dJ6_equals_29 rfl ?_
        obtain ⟨g20, h⟩ := gd_e h
        refine gx_get (t := 22) (k := 1) (v := J (s0 a1 1)) 30 cw22 (by decide) g20 q723 same_f rfl dJ6_equals_30 ?_
        refine gx_icmp_ne 33 54 dJ6_equals_33 (by decide) (fun c21 => ?_) (fun c21 => ?_)
        · replace h := if_f h c21
          refine gx_iconst 54 dJ6_equals_54 ?_
          exact gx_zret 55 dJ6_equals_55 (by decide) (rt h)
        · replace h := if_t h c21
          refine gx_sub [1, 0] rfl ?_
          exact hj17 _ _ h
  · replace h := if_t h c5
    refine gx_iconst 5 dJ6_equals_5 ?_
    exact gx_zret 6 dJ6_equals_6 (by decide) (rt h)
/-! java/lang/String.charAt -/
noncomputable def j6_charAt (b : Bool) (a0 : Int) (a1 : Int) (s0 : XS) : Option (Int × XS) :=
  gd (tg b s0 a0 = 22) <|
  Option.bind (j6_isLatin1 b a0 s0) fun z2 =>
  if i32 z2.1 = 0 then
    gd (tg b z2.2 a0 = 22) <|
    gd (¬ (z2.2 a0 0) = -1) <|
    none
  else
    gd (tg b z2.2 a0 = 22) <|
    gd (¬ (z2.2 a0 0) = -1) <|
    Option.bind (j9_charAt b (z2.2 a0 0) a1 z2.2) fun z9 =>
    gd (0 ≤ i32 z9.1 ∧ i32 z9.1 < 65536) <|
    some (z9.1, z9.2)
theorem mj6_charAt {b : Bool} {x0 : Nat} {D : XD} {a0 : Int} {a1 : Int} {s0 : XS} {res : Int × XS} (h : j6_charAt b a0 a1 s0 = some res) (l : Launch) : XMet0 l yJ6_charAt cJ6_charAt 2 (some .char) 4 b x0 D [.ref (ad x0 a0), J a1] s0 1 res := by
  refine XMet0.ofn [(0, .ref (ad x0 a0)), (1, J a1)] "java/lang/String" "charAt" rfl rfl (plainFor_of_name (by decide)) (Nat.le_of_ble_eq_true rfl) rfl ?_
  unfold j6_charAt at h
  generalize nC s0 = cN
  generalize nS s0 = sN
  refine gx_aload_n 0 0 dJ6_charAt_0 rfl ?_
  obtain ⟨g3, h⟩ := gd_e h
  obtain ⟨z2, ez2, h⟩ := opt_e h
  refine gx_callV (As := []) (rest := []) (st' := [J z2.1]) 1 0 cw22 g3 (mj6_isLatin1 ez2 l) (lw_V q766 q767 q768 q162 q769) (by decide +kernel) (by decide) rfl rfl (Nat.le_of_ble_eq_true rfl) dJ6_charAt_1 rfl ?_
  refine gx_if_eq 4 16 dJ6_charAt_4 (by decide) (fun c4 => ?_) (fun c4 => ?_)
  · replace h := if_t h c4
    refine gx_aload_n 16 0 dJ6_charAt_16 rfl ?_
    obtain ⟨g5, h⟩ := gd_e h
    obtain ⟨g6, h⟩ := gd_e h
    refine gx_get (t := 22) (k := 0) (v := .ref (ad x0 (z2.2 a0 0))) 17 cw22 (by decide) g5 q722 same_f (rf_ne g6) dJ6_charAt_17 ?_
    refine gx_iload_n 20 1 dJ6_charAt_20 rfl ?_
    cases h
  · replace h := if_f h c4
    refine gx_aload_n 7 0 dJ6_charAt_7 rfl ?_
    obtain ⟨g7, h⟩ := gd_e h
    obtain ⟨g8, h⟩ := gd_e h
    refine gx_get (t := 22) (k := 0) (v := .ref (ad x0 (z2.2 a0 0))) 8 cw22 (by decide) g7 q722 same_f (rf_ne g8) dJ6_charAt_8 ?_
    refine gx_iload_n 11 1 dJ6_charAt_11 rfl ?_
    obtain ⟨z9, ez9, h⟩ := opt_e h
    refine gx_callS (As := [.ref (ad x0 (z2.2 a0 0)), J a1]) (rest := []) (st' := [J z9.1]) 12 2 (mj9_charAt ez9 l) (lw_S q1335 q1336 q165 q1337) (by decide +kernel) (by decide) rfl rfl (Nat.le_of_ble_eq_true rfl) dJ6_charAt_12 rfl ?_
    obtain ⟨g10, h⟩ := gd_e h
    exact gx_cret 15 dJ6_charAt_15 g10 (rt h)
/-! VerbAtDusk.find -/
noncomputable def x0_find_L2 (a1 : Int) (a2 : Int) (k26 : XS → Option (Int × XS)) (k18 : Int → XS → Option (Int × XS)) : Nat → Int → XS → Option (Int × XS)
  | 0, _, _ => none
  | n + 1, x2_4, s5 =>
    gd (tg true s5 a2 = 115) <|
    if i32 (ln true s5 a2) ≤ i32 x2_4 then
      k26 s5
    else
      gd (tg true s5 a2 = 115) <|
      gd (ok (ln true s5 a2) x2_4) <|
      gd (¬ (s5 a2 (i32 x2_4)) = -1) <|
      gd (tg true s5 (s5 a2 (i32 x2_4)) = 22) <|
      Option.bind (j6_equals true (s5 a2 (i32 x2_4)) a1 s5) fun z14 =>
      if i32 z14.1 = 0 then
        bnd (x2_4 + 1) fun x2_17 =>
        x0_find_L2 a1 a2 k26 k18 n x2_17 z14.2
      else
        k18 x2_4 z14.2
noncomputable def x0_find (a1 : Int) (a2 : Int) (s0 : XS) : Option (Int × XS) :=
  bnd 0 fun x2_3 =>
  x0_find_L2 a1 a2
    (fun (s18 : XS) =>
      some ((-1), s18))
    (fun (x2_19 : Int) (s20 : XS) =>
      some (x2_19, s20))
    FU x2_3 s0
theorem wx0_find_L2 {l : Launch} {x0 : Nat} {D : XD} {cN sN : Nat} {res : Int × XS} {a1 : Int} {a2 : Int} {k26 : XS → Option (Int × XS)} {k18 : Int → XS → Option (Int × XS)} (hk26 : ∀ (s6 : XS), k26 s6 = some res → GX l cX0_find "VerbAtDusk" 3 (some .int) "find" [] x0 D true 1 3 cN sN (0, res) s6 26 [] []) (hk18 : ∀ (x2_7 : Int) (s8 : XS), k18 x2_7 s8 = some res → GX l cX0_find "VerbAtDusk" 3 (some .int) "find" [] x0 D true 1 3 cN sN (0, res) s8 18 [(2, J x2_7)] []) : ∀ (n : Nat) (x2_4 : Int) (s5 : XS), x0_find_L2 a1 a2 k26 k18 n x2_4 s5 = some res → GX l cX0_find "VerbAtDusk" 3 (some .int) "find" [] x0 D true 1 3 cN sN (0, res) s5 2 [(0, .ref (ad x0 a1)), (1, .ref (ad x0 a2)), (2, J x2_4)] [] := by
  intro n
  induction n with
  | zero =>
    intro x2_4 s5 h
    cases h
  | succ n ih =>
    intro x2_4 s5 h
    rw [x0_find_L2] at h
    refine gx_iload_n 2 2 dX0_find_2 rfl ?_
    refine gx_aload_n 3 1 dX0_find_3 rfl ?_
    obtain ⟨g9, h⟩ := gd_e h
    refine gx_alen (t := 115) (ty := (.object "java/lang/String")) 4 (by decide) (by decide) g9 dX0_find_4 ?_
    refine gx_icmp_ge 5 26 dX0_find_5 (by decide) (fun c10 => ?_) (fun c10 => ?_)
    · replace h := if_t h c10
      refine gx_sub [] rfl ?_
      exact hk26 _ h
    · replace h := if_f h c10
      refine gx_aload_n 8 1 dX0_find_8 rfl ?_
      refine gx_iload_n 9 2 dX0_find_9 rfl ?_
      obtain ⟨g11, h⟩ := gd_e h
      obtain ⟨g12, h⟩ := gd_e h
      obtain ⟨g13, h⟩ := gd_e h
      refine gx_aald (t := 115) (ty := (.object "java/lang/String")) (r := (s5 a2 (i32 x2_4))) 10 (by decide) rfl (by decide) g11 g12 rfl g13 dX0_find_10 ?_
      refine gx_aload_n 11 0 dX0_find_11 rfl ?_
      obtain ⟨g15, h⟩ := gd_e h
      obtain ⟨z14, ez14, h⟩ := opt_e h
      refine gx_callV (As := [.ref (ad x0 a1)]) (rest := []) (st' := [J z14.1]) 12 1 cw22 g15 (mj6_equals ez14 l) (lw_V q841 q737 q738 q162 q739) (by decide +kernel) (by decide) rfl rfl (Nat.le_of_ble_eq_true rfl) dX0_find_12 rfl ?_
      refine gx_if_eq 15 20 dX0_find_15 (by decide) (fun c16 => ?_) (fun c16 => ?_)
      · replace h := if_t h c16
        obtain ⟨x2_17, ex2_17, h⟩ := bnd_e h
        refine gx_iinc 20 2 [(2, J x2_17), (0, .ref (ad x0 a1)), (1, .ref (ad x0 a2))] dX0_find_20 rfl ex2_17 (by decide) rfl ?_
        refine gx_goto 23 2 dX0_find_23 (by decide) ?_
        refine gx_sub [1, 2, 0] rfl ?_
        exact ih _ _ h
      · replace h := if_f h c16
        refine gx_sub [2] rfl ?_
        exact hk18 _ _ h
theorem mx0_find {x0 : Nat} {D : XD} {a1 : Int} {a2 : Int} {s0 : XS} {res : Int × XS} (h : x0_find a1 a2 s0 = some res) (l : Launch) : XMet0 l yX0_find cX0_find 3 (some .int) 3 true x0 D [.ref (ad x0 a1), .ref (ad x0 a2)] s0 1 res := by
  refine XMet0.ofn [(0, .ref (ad x0 a1)), (1, .ref (ad x0 a2))] "VerbAtDusk" "find" rfl rfl (plainFor_of_name (by decide)) (Nat.le_of_ble_eq_true rfl) rfl ?_
  unfold x0_find at h
  generalize nC s0 = cN
  generalize nS s0 = sN
  refine gx_iconst 0 dX0_find_0 ?_
  obtain ⟨x2_3, ex2_3, h⟩ := bnd_e h
  refine gx_istore_n 1 [(2, J x2_3), (0, .ref (ad x0 a1)), (1, .ref (ad x0 a2))] dX0_find_1 (by decide) ex2_3 rfl ?_
  refine gx_sub [1, 2, 0] rfl ?_
  refine wx0_find_L2 (fun s18 h => ?_) (fun x2_19 s20 h => ?_) FU _ _ h
  · refine gx_iconst 26 dX0_find_26 ?_
    exact gx_iret 27 dX0_find_27 (rt h)
  · refine gx_iload_n 18 0 dX0_find_18 rfl ?_
    exact gx_iret 19 dX0_find_19 (rt h)
/-! VerbAtDusk.sayings -/
noncomputable def x0_sayings (s0 : XS) : Option (Int × XS) :=
  gd (¬ (s0 0 0) = -1) <|
  gd (tg true s0 (s0 0 0) = 2) <|
  gd (¬ (s0 (s0 0 0) 4) = -1) <|
  gd (tg true s0 (s0 (s0 0 0) 4) = 21) <|
  Option.bind (j2_size true (s0 (s0 0 0) 4) s0) fun z4 =>
  some (z4.1, z4.2)
theorem mx0_sayings {x0 : Nat} {D : XD} {s0 : XS} {res : Int × XS} (h : x0_sayings s0 = some res) (l : Launch) : XMet0 l yX0_sayings cX0_sayings 1 (some .int) 2 true x0 D [.ref (ad x0 0)] s0 1 res := by
  refine XMet0.ofn [(0, .ref (ad x0 0))] "VerbAtDusk" "sayings" rfl rfl (plainFor_of_name (by decide)) (Nat.le_of_ble_eq_true rfl) rfl ?_
  unfold x0_sayings at h
  generalize nC s0 = cN
  generalize nS s0 = sN
  refine gx_aload_n 0 0 dX0_sayings_0 rfl ?_
  obtain ⟨g1, h⟩ := gd_e h
  refine gx_get (t := 1) (k := 0) (v := .ref (ad x0 (s0 0 0))) 1 cw1 (by decide) (tgs (show stc 0 = (1, 0) by decide) (by decide)) q519 same_f (rf_ne g1) dX0_sayings_1 ?_
  obtain ⟨g2, h⟩ := gd_e h
  obtain ⟨g3, h⟩ := gd_e h
  refine gx_getN (t := 2) (k := 4) (v := .ref (ad x0 (s0 (s0 0 0) 4))) 4 cw2 (by decide) g2 q242 same_f (rf_ne g3) dX0_sayings_4 ?_
  obtain ⟨g5, h⟩ := gd_e h
  obtain ⟨z4, ez4, h⟩ := opt_e h
  refine gx_callF (As := []) (rest := []) (st' := [J z4.1]) 7 0 cw21 rfl g5  (mj2_size ez4 l) (lw_app (lw_in4 q1293 q823 q825 q151) (lw_meth q827)) (by decide) (by decide +kernel) (by decide) rfl rfl (Nat.le_of_ble_eq_true rfl) dX0_sayings_7 rfl ?_
  exact gx_iret 12 dX0_sayings_12 (rt h)
/-! VerbAtDusk.verbs -/
noncomputable def x0_verbs (s0 : XS) : Option (Int × XS) :=
  gd (¬ (s0 0 0) = -1) <|
  gd (tg true s0 (s0 0 0) = 2) <|
  gd (¬ (s0 (s0 0 0) 5) = -1) <|
  gd (tg true s0 (s0 (s0 0 0) 5) = 21) <|
  Option.bind (j2_size true (s0 (s0 0 0) 5) s0) fun z4 =>
  some (z4.1, z4.2)
theorem mx0_verbs {x0 : Nat} {D : XD} {s0 : XS} {res : Int × XS} (h : x0_verbs s0 = some res) (l : Launch) : XMet0 l yX0_verbs cX0_verbs 1 (some .int) 2 true x0 D [.ref (ad x0 0)] s0 1 res := by
  refine XMet0.ofn [(0, .ref (ad x0 0))] "VerbAtDusk" "verbs" rfl rfl (plainFor_of_name (by decide)) (Nat.le_of_ble_eq_true rfl) rfl ?_
  unfold x0_verbs at h
  generalize nC s0 = cN
  generalize nS s0 = sN
  refine gx_aload_n 0 0 dX0_verbs_0 rfl ?_
  obtain ⟨g1, h⟩ := gd_e h
  refine gx_get (t := 1) (k := 0) (v := .ref (ad x0 (s0 0 0))) 1 cw1 (by decide) (tgs (show stc 0 = (1, 0) by decide) (by decide)) q519 same_f (rf_ne g1) dX0_verbs_1 ?_
  obtain ⟨g2, h⟩ := gd_e h
  obtain ⟨g3, h⟩ := gd_e h
  refine gx_getN (t := 2) (k := 5) (v := .ref (ad x0 (s0 (s0 0 0) 5))) 4 cw2 (by decide) g2 q247 same_f (rf_ne g3) dX0_verbs_4 ?_
  obtain ⟨g5, h⟩ := gd_e h
  obtain ⟨z4, ez4, h⟩ := opt_e h
  refine gx_callF (As := []) (rest := []) (st' := [J z4.1]) 7 0 cw21 rfl g5  (mj2_size ez4 l) (lw_app (lw_in4 q1293 q823 q825 q151) (lw_meth q827)) (by decide) (by decide +kernel) (by decide) rfl rfl (Nat.le_of_ble_eq_true rfl) dX0_verbs_7 rfl ?_
  exact gx_iret 12 dX0_verbs_12 (rt h)
/-! VerbAtDusk.isSaying -/
noncomputable def x0_isSaying (a1 : Int) (s0 : XS) : Option (Int × XS) :=
  if i32 a1 < 0 then
    some (0, s0)
  else
    Option.bind (x0_sayings s0) fun z3 =>
    if i32 z3.1 ≤ i32 a1 then
      some (0, z3.2)
    else
      some (1, z3.2)
theorem mx0_isSaying {x0 : Nat} {D : XD} {a1 : Int} {s0 : XS} {res : Int × XS} (h : x0_isSaying a1 s0 = some res) (l : Launch) : XMet0 l yX0_isSaying cX0_isSaying 2 (some .boolean) 3 true x0 D [.ref (ad x0 0), J a1] s0 1 res := by
  refine XMet0.ofn [(0, .ref (ad x0 0)), (1, J a1)] "VerbAtDusk" "isSaying" rfl rfl (plainFor_of_name (by decide)) (Nat.le_of_ble_eq_true rfl) rfl ?_
  unfold x0_isSaying at h
  generalize nC s0 = cN
  generalize nS s0 = sN
  refine gx_iload_n 0 1 dX0_isSaying_0 rfl ?_
  refine gx_if_lt 1 16 dX0_isSaying_1 (by decide) (fun c2 => ?_) (fun c2 => ?_)
  · replace h := if_t h c2
    refine gx_iconst 16 dX0_isSaying_16 ?_
    exact gx_zret 17 dX0_isSaying_17 (by decide) (rt h)
  · replace h := if_f h c2
    refine gx_iload_n 4 1 dX0_isSaying_4 rfl ?_
    refine gx_aload_n 5 0 dX0_isSaying_5 rfl ?_
    obtain ⟨z3, ez3, h⟩ := opt_e h
    refine gx_callV (As := []) (rest := [J a1]) (st' := [J z3.1, J a1]) 6 0 cw1 (tgs (show stc 0 = (1, 0) by decide) (by decide)) (mx0_sayings ez3 l) (lw_V q1305 q1290 qs33 q147 q1291) (by decide +kernel) (by decide) rfl rfl (Nat.le_of_ble_eq_true rfl) dX0_isSaying_6 rfl ?_
    refine gx_icmp_ge 9 16 dX0_isSaying_9 (by decide) (fun c4 => ?_) (fun c4 => ?_)
    · replace h := if_t h c4
      refine gx_iconst 16 dX0_isSaying_16 ?_
      exact gx_zret 17 dX0_isSaying_17 (by decide) (rt h)
    · replace h := if_f h c4
      refine gx_iconst 12 dX0_isSaying_12 ?_
      refine gx_goto 13 17 dX0_isSaying_13 (by decide) ?_
      exact gx_zret 17 dX0_isSaying_17 (by decide) (rt h)
/-! VerbAtDusk.isVerb -/
noncomputable def x0_isVerb (a1 : Int) (s0 : XS) : Option (Int × XS) :=
  if i32 a1 < 0 then
    some (0, s0)
  else
    Option.bind (x0_verbs s0) fun z3 =>
    if i32 z3.1 ≤ i32 a1 then
      some (0, z3.2)
    else
      some (1, z3.2)
theorem mx0_isVerb {x0 : Nat} {D : XD} {a1 : Int} {s0 : XS} {res : Int × XS} (h : x0_isVerb a1 s0 = some res) (l : Launch) : XMet0 l yX0_isVerb cX0_isVerb 2 (some .boolean) 3 true x0 D [.ref (ad x0 0), J a1] s0 1 res := by
  refine XMet0.ofn [(0, .ref (ad x0 0)), (1, J a1)] "VerbAtDusk" "isVerb" rfl rfl (plainFor_of_name (by decide)) (Nat.le_of_ble_eq_true rfl) rfl ?_
  unfold x0_isVerb at h
  generalize nC s0 = cN
  generalize nS s0 = sN
  refine gx_iload_n 0 1 dX0_isVerb_0 rfl ?_
  refine gx_if_lt 1 16 dX0_isVerb_1 (by decide) (fun c2 => ?_) (fun c2 => ?_)
  · replace h := if_t h c2
    refine gx_iconst 16 dX0_isVerb_16 ?_
    exact gx_zret 17 dX0_isVerb_17 (by decide) (rt h)
  · replace h := if_f h c2
    refine gx_iload_n 4 1 dX0_isVerb_4 rfl ?_
    refine gx_aload_n 5 0 dX0_isVerb_5 rfl ?_
    obtain ⟨z3, ez3, h⟩ := opt_e h
    refine gx_callV (As := []) (rest := [J a1]) (st' := [J z3.1, J a1]) 6 0 cw1 (tgs (show stc 0 = (1, 0) by decide) (by decide)) (mx0_verbs ez3 l) (lw_V q1306 q1308 qs34 q147 q1309) (by decide +kernel) (by decide) rfl rfl (Nat.le_of_ble_eq_true rfl) dX0_isVerb_6 rfl ?_
    refine gx_icmp_ge 9 16 dX0_isVerb_9 (by decide) (fun c4 => ?_) (fun c4 => ?_)
    · replace h := if_t h c4
      refine gx_iconst 16 dX0_isVerb_16 ?_
      exact gx_zret 17 dX0_isVerb_17 (by decide) (rt h)
    · replace h := if_f h c4
      refine gx_iconst 12 dX0_isVerb_12 ?_
      refine gx_goto 13 17 dX0_isVerb_13 (by decide) ?_
      exact gx_zret 17 dX0_isVerb_17 (by decide) (rt h)
/-! VerbAtDusk.isCountry -/
noncomputable def x0_isCountry (s0 : XS) : Option (Int × XS) :=
  gd (¬ (s0 0 0) = -1) <|
  gd (tg true s0 (s0 0 0) = 2) <|
  if i32 (s0 (s0 0 0) 0) ≤ 0 then
    some (0, s0)
  else
    some (1, s0)
theorem mx0_isCountry {x0 : Nat} {D : XD} {s0 : XS} {res : Int × XS} (h : x0_isCountry s0 = some res) (l : Launch) : XMet0 l yX0_isCountry cX0_isCountry 1 (some .boolean) 1 true x0 D [.ref (ad x0 0)] s0 1 res := by
  refine XMet0.ofn [(0, .ref (ad x0 0))] "VerbAtDusk" "isCountry" rfl rfl (plainFor_of_name (by decide)) (Nat.le_of_ble_eq_true rfl) rfl ?_
  unfold x0_isCountry at h
  generalize nC s0 = cN
  generalize nS s0 = sN
  refine gx_aload_n 0 0 dX0_isCountry_0 rfl ?_
  obtain ⟨g1, h⟩ := gd_e h
  refine gx_get (t := 1) (k := 0) (v := .ref (ad x0 (s0 0 0))) 1 cw1 (by decide) (tgs (show stc 0 = (1, 0) by decide) (by decide)) q519 same_f (rf_ne g1) dX0_isCountry_1 ?_
  obtain ⟨g2, h⟩ := gd_e h
  refine gx_getN (t := 2) (k := 0) (v := J (s0 (s0 0 0) 0)) 4 cw2 (by decide) g2 q231 same_f rfl dX0_isCountry_4 ?_
  refine gx_if_le 7 14 dX0_isCountry_7 (by decide) (fun c3 => ?_) (fun c3 => ?_)
  · replace h := if_t h c3
    refine gx_iconst 14 dX0_isCountry_14 ?_
    exact gx_zret 15 dX0_isCountry_15 (by decide) (rt h)
  · replace h := if_f h c3
    refine gx_iconst 10 dX0_isCountry_10 ?_
    refine gx_goto 11 15 dX0_isCountry_11 (by decide) ?_
    exact gx_zret 15 dX0_isCountry_15 (by decide) (rt h)
/-! VerbAtDusk.is -/
noncomputable def x0_is (a1 : Int) (a2 : Int) (a3 : Int) (s0 : XS) : Option (Int × XS) :=
  if i32 a1 < i32 a2 then
    some (0, s0)
  else
    if i32 a3 < i32 a1 then
      some (0, s0)
    else
      some (1, s0)
theorem mx0_is {x0 : Nat} {D : XD} {a1 : Int} {a2 : Int} {a3 : Int} {s0 : XS} {res : Int × XS} (h : x0_is a1 a2 a3 s0 = some res) (l : Launch) : XMet0 l yX0_is cX0_is 3 (some .boolean) 1 true x0 D [J a1, J a2, J a3] s0 1 res := by
  refine XMet0.ofn [(0, J a1), (1, J a2), (2, J a3)] "VerbAtDusk" "is" rfl rfl (plainFor_of_name (by decide)) (Nat.le_of_ble_eq_true rfl) rfl ?_
  unfold x0_is at h
  generalize nC s0 = cN
  generalize nS s0 = sN
  refine gx_iload_n 0 0 dX0_is_0 rfl ?_
  refine gx_iload_n 1 1 dX0_is_1 rfl ?_
  refine gx_icmp_lt 2 14 dX0_is_2 (by decide) (fun c4 => ?_) (fun c4 => ?_)
  · replace h := if_t h c4
    refine gx_iconst 14 dX0_is_14 ?_
    exact gx_zret 15 dX0_is_15 (by decide) (rt h)
  · replace h := if_f h c4
    refine gx_iload_n 5 0 dX0_is_5 rfl ?_
    refine gx_iload_n 6 2 dX0_is_6 rfl ?_
    refine gx_icmp_gt 7 14 dX0_is_7 (by decide) (fun c5 => ?_) (fun c5 => ?_)
    · replace h := if_t h c5
      refine gx_iconst 14 dX0_is_14 ?_
      exact gx_zret 15 dX0_is_15 (by decide) (rt h)
    · replace h := if_f h c5
      refine gx_iconst 10 dX0_is_10 ?_
      refine gx_goto 11 15 dX0_is_11 (by decide) ?_
      exact gx_zret 15 dX0_is_15 (by decide) (rt h)
/-! VerbAtDusk.has -/
noncomputable def x0_has (a1 : Int) (a2 : Int) (s0 : XS) : Option (Int × XS) :=
  if i32 (iand (ishr a1 a2) 1) = i32 1 then
    some (1, s0)
  else
    some (0, s0)
theorem mx0_has {x0 : Nat} {D : XD} {a1 : Int} {a2 : Int} {s0 : XS} {res : Int × XS} (h : x0_has a1 a2 s0 = some res) (l : Launch) : XMet0 l yX0_has cX0_has 2 (some .boolean) 1 true x0 D [J a1, J a2] s0 1 res := by
  refine XMet0.ofn [(0, J a1), (1, J a2)] "VerbAtDusk" "has" rfl rfl (plainFor_of_name (by decide)) (Nat.le_of_ble_eq_true rfl) rfl ?_
  unfold x0_has at h
  generalize nC s0 = cN
  generalize nS s0 = sN
  refine gx_iload_n 0 0 dX0_has_0 rfl ?_
  refine gx_iload_n 1 1 dX0_has_1 rfl ?_
  refine gx_ishr 2 dX0_has_2 ?_
  refine gx_iconst 3 dX0_has_3 ?_
  refine gx_iand 4 dX0_has_4 ?_
  refine gx_iconst 5 dX0_has_5 ?_
  refine gx_icmp_ne 6 13 dX0_has_6 (by decide) (fun c3 => ?_) (fun c3 => ?_)
  · replace h := if_f h c3
    refine gx_iconst 13 dX0_has_13 ?_
    exact gx_zret 14 dX0_has_14 (by decide) (rt h)
  · replace h := if_t h c3
    refine gx_iconst 9 dX0_has_9 ?_
    refine gx_goto 10 14 dX0_has_10 (by decide) ?_
    exact gx_zret 14 dX0_has_14 (by decide) (rt h)
/-! VerbAtDusk.has_2 -/
noncomputable def x0_has_2_L102 (k132 : Int → Int → XS → Option (Int × XS)) : Nat → Int → Int → Int → XS → Option (Int × XS)
  | 0, _, _, _, _ => none
  | n + 1, x2_23, x3_24, x4_25, s26 =>
    Option.bind (x0_verbs s26) fun z30 =>
    if i32 z30.1 ≤ i32 x4_25 then
      k132 x2_23 x3_24 z30.2
    else
      gd (ok 6 x3_24) <|
      gd (ok 7 x4_25) <|
      bnd (x2_23 + (z30.2 (41 + 1 + i32 x3_24) (i32 x4_25))) fun x2_34 =>
      bnd (x4_25 + 1) fun x4_35 =>
      x0_has_2_L102 k132 n x2_34 x3_24 x4_35 z30.2
noncomputable def x0_has_2_L91 (k138 : Int → XS → Option (Int × XS)) : Nat → Int → Int → XS → Option (Int × XS)
  | 0, _, _, _ => none
  | n + 1, x2_15, x3_16, s17 =>
    Option.bind (x0_sayings s17) fun z20 =>
    if i32 z20.1 ≤ i32 x3_16 then
      k138 x2_15 z20.2
    else
      bnd 0 fun x4_22 =>
      x0_has_2_L102
        (fun (x2_36 : Int) (x3_37 : Int) (s38 : XS) =>
          bnd (x3_37 + 1) fun x3_39 =>
          x0_has_2_L91 k138 n x2_36 x3_39 s38)
        FU x2_15 x3_16 x4_22 z20.2
noncomputable def x0_has_2 (a1 : Int) (s0 : XS) : Option (Int × XS) :=
  bnd 0 fun x2_2 =>
  if i32 a1 = 0 then
    gd (¬ (s0 0 0) = -1) <|
    gd (tg true s0 (s0 0 0) = 2) <|
    some ((s0 (s0 0 0) 1), s0)
  else
  if i32 a1 = 1 then
    Option.bind (x0_sayings s0) fun z7 =>
    some (z7.1, z7.2)
  else
  if i32 a1 = 2 then
    Option.bind (x0_verbs s0) fun z9 =>
    some (z9.1, z9.2)
  else
  if i32 a1 = 3 then
    some ((s0 36 0), s0)
  else
  if i32 a1 = 4 then
    Option.bind (j16_bitCount true (s0 36 1) s0) fun z12 =>
    some (z12.1, z12.2)
  else
  if i32 a1 = 5 then
    bnd 0 fun x3_14 =>
    x0_has_2_L91
      (fun (x2_40 : Int) (s41 : XS) =>
        some (x2_40, s41))
      FU x2_2 x3_14 s0
  else
  if i32 a1 = 6 then
    some ((s0 36 2), s0)
  else
  if i32 a1 = 7 then
    some ((s0 0 16), s0)
  else
  if i32 a1 = 8 then
    some ((s0 0 19), s0)
  else
    some ((-1), s0)
theorem wx0_has_2_L102 {l : Launch} {x0 : Nat} {D : XD} {cN sN : Nat} {res : Int × XS} {k132 : Int → Int → XS → Option (Int × XS)} (hk132 : ∀ (x2_27 : Int) (x3_28 : Int) (s29 : XS), k132 x2_27 x3_28 s29 = some res → GX l cX0_has_2 "VerbAtDusk" 5 (some .int) "has" [] x0 D true 1 3 cN sN (0, res) s29 132 [(0, .ref (ad x0 0)), (2, J x2_27), (3, J x3_28)] []) : ∀ (n : Nat) (x2_23 : Int) (x3_24 : Int) (x4_25 : Int) (s26 : XS), x0_has_2_L102 k132 n x2_23 x3_24 x4_25 s26 = some res → GX l cX0_has_2 "VerbAtDusk" 5 (some .int) "has" [] x0 D true 1 3 cN sN (0, res) s26 102 [(0, .ref (ad x0 0)), (2, J x2_23), (3, J x3_24), (4, J x4_25)] [] := by
  intro n
  induction n with
  | zero =>
    intro x2_23 x3_24 x4_25 s26 h
    cases h
  | succ n ih =>
    intro x2_23 x3_24 x4_25 s26 h
    rw [x0_has_2_L102] at h
    refine gx_iload 102 3 dX0_has_2_102 rfl ?_
    refine gx_aload_n 104 0 dX0_has_2_104 rfl ?_
    obtain ⟨z30, ez30, h⟩ := opt_e h
    refine gx_callV (As := []) (rest := [J x4_25]) (st' := [J z30.1, J x4_25]) 105 0 cw1 (tgs (show stc 0 = (1, 0) by decide) (by decide)) (mx0_verbs ez30 l) (lw_V q1306 q1308 qs34 q147 q1309) (by decide +kernel) (by decide) rfl rfl (Nat.le_of_ble_eq_true rfl) dX0_has_2_105 rfl ?_
    refine gx_icmp_ge 108 132 dX0_has_2_108 (by decide) (fun c31 => ?_) (fun c31 => ?_)
    · replace h := if_t h c31
      refine gx_sub [0, 1, 2] rfl ?_
      exact hk132 _ _ _ h
    · replace h := if_f h c31
      refine gx_iload_n 111 1 dX0_has_2_111 rfl ?_
      refine gx_aload_n 112 0 dX0_has_2_112 rfl ?_
      refine gx_get (t := 1) (k := 11) (v := .ref (ad x0 36)) 113 cw1 (by decide) (tgs (show stc 0 = (1, 0) by decide) (by decide)) q534 same_f (rf_ne (nes (show stc 36 = (8, 6) by decide) (by decide))) dX0_has_2_113 ?_
      refine gx_getN (t := 8) (k := 7) (v := .ref (ad x0 41)) 116 cw8 (by decide) (tgs (show stc 36 = (8, 6) by decide) (by decide)) q490 same_f (rf_ne (nes (show stc 41 = (121, 6) by decide) (by decide))) dX0_has_2_116 ?_
      refine gx_iload_n 119 2 dX0_has_2_119 rfl ?_
      obtain ⟨g32, h⟩ := gd_e h
      refine gx_aald (t := 121) (ty := (.array .int)) (r := (41 + 1 + i32 x3_24)) 120 (by decide) rfl (by decide) (tgs (show stc 41 = (121, 6) by decide) (by decide)) (oks (show stc 41 = (121, 6) by decide) (by decide) g32) rfl (nes (st_g (ce := 36) (by decide) g32) (by decide)) dX0_has_2_120 ?_
      refine gx_iload 121 3 dX0_has_2_121 rfl ?_
      obtain ⟨g33, h⟩ := gd_e h
      refine gx_iald 123 (tgs (st_g (ce := 36) (by decide) g32) (by decide)) (oks (st_g (ce := 36) (by decide) g32) (by decide) g33) dX0_has_2_123 ?_
      refine gx_iadd 124 dX0_has_2_124 ?_
      obtain ⟨x2_34, ex2_34, h⟩ := bnd_e h
      refine gx_istore_n 125 [(2, J x2_34), (0, .ref (ad x0 0)), (3, J x3_24), (4, J x4_25)] dX0_has_2_125 (by decide) ex2_34 rfl ?_
      obtain ⟨x4_35, ex4_35, h⟩ := bnd_e h
      refine gx_iinc 126 3 [(4, J x4_35), (2, J x2_34), (0, .ref (ad x0 0)), (3, J x3_24)] dX0_has_2_126 rfl ex4_35 (by decide) rfl ?_
      refine gx_goto 129 102 dX0_has_2_129 (by decide) ?_
      refine gx_sub [2, 1, 3, 0] rfl ?_
      exact ih _ _ _ _ h
theorem wx0_has_2_L91 {l : Launch} {x0 : Nat} {D : XD} {cN sN : Nat} {res : Int × XS} {k138 : Int → XS → Option (Int × XS)} (hk138 : ∀ (x2_18 : Int) (s19 : XS), k138 x2_18 s19 = some res → GX l cX0_has_2 "VerbAtDusk" 5 (some .int) "has" [] x0 D true 1 3 cN sN (0, res) s19 138 [(2, J x2_18)] []) : ∀ (n : Nat) (x2_15 : Int) (x3_16 : Int) (s17 : XS), x0_has_2_L91 k138 n x2_15 x3_16 s17 = some res → GX l cX0_has_2 "VerbAtDusk" 5 (some .int) "has" [] x0 D true 1 3 cN sN (0, res) s17 91 [(0, .ref (ad x0 0)), (2, J x2_15), (3, J x3_16)] [] := by
  intro n
  induction n with
  | zero =>
    intro x2_15 x3_16 s17 h
    cases h
  | succ n ih =>
    intro x2_15 x3_16 s17 h
    rw [x0_has_2_L91] at h
    refine gx_iload_n 91 2 dX0_has_2_91 rfl ?_
    refine gx_aload_n 92 0 dX0_has_2_92 rfl ?_
    obtain ⟨z20, ez20, h⟩ := opt_e h
    refine gx_callV (As := []) (rest := [J x3_16]) (st' := [J z20.1, J x3_16]) 93 0 cw1 (tgs (show stc 0 = (1, 0) by decide) (by decide)) (mx0_sayings ez20 l) (lw_V q1305 q1290 qs33 q147 q1291) (by decide +kernel) (by decide) rfl rfl (Nat.le_of_ble_eq_true rfl) dX0_has_2_93 rfl ?_
    refine gx_icmp_ge 96 138 dX0_has_2_96 (by decide) (fun c21 => ?_) (fun c21 => ?_)
    · replace h := if_t h c21
      refine gx_sub [1] rfl ?_
      exact hk138 _ _ h
    · replace h := if_f h c21
      refine gx_iconst 99 dX0_has_2_99 ?_
      obtain ⟨x4_22, ex4_22, h⟩ := bnd_e h
      refine gx_istore 100 [(4, J x4_22), (0, .ref (ad x0 0)), (2, J x2_15), (3, J x3_16)] dX0_has_2_100 (by decide) ex4_22 rfl ?_
      refine gx_sub [1, 2, 3, 0] rfl ?_
      refine wx0_has_2_L102 (fun x2_36 x3_37 s38 h => ?_) FU _ _ _ _ h
      · obtain ⟨x3_39, ex3_39, h⟩ := bnd_e h
        refine gx_iinc 132 2 [(3, J x3_39), (0, .ref (ad x0 0)), (2, J x2_36)] dX0_has_2_132 rfl ex3_39 (by decide) rfl ?_
        refine gx_goto 135 91 dX0_has_2_135 (by decide) ?_
        refine gx_sub [1, 2, 0] rfl ?_
        exact ih _ _ _ h
theorem mx0_has_2 {x0 : Nat} {D : XD} {a1 : Int} {s0 : XS} {res : Int × XS} (h : x0_has_2 a1 s0 = some res) (l : Launch) : XMet0 l yX0_has_2 cX0_has_2 5 (some .int) 3 true x0 D [.ref (ad x0 0), J a1] s0 1 res := by
  refine XMet0.ofn [(0, .ref (ad x0 0)), (1, J a1)] "VerbAtDusk" "has" rfl rfl (plainFor_of_name (by decide)) (Nat.le_of_ble_eq_true rfl) rfl ?_
  unfold x0_has_2 at h
  generalize nC s0 = cN
  generalize nS s0 = sN
  refine gx_iconst 0 dX0_has_2_0 ?_
  obtain ⟨x2_2, ex2_2, h⟩ := bnd_e h
  refine gx_istore_n 1 [(2, J x2_2), (0, .ref (ad x0 0)), (1, J a1)] dX0_has_2_1 (by decide) ex2_2 rfl ?_
  refine gx_iload_n 2 2 dX0_has_2_2 rfl ?_
  by_cases c3 : i32 a1 = 0
  · replace h := if_t h c3
    refine gx_tableIn 3 52 0 dX0_has_2_3 c3 (by decide) (by decide) rfl (by decide) ?_
    refine gx_aload_n 52 1 dX0_has_2_52 rfl ?_
    obtain ⟨g4, h⟩ := gd_e h
    refine gx_get (t := 1) (k := 0) (v := .ref (ad x0 (s0 0 0))) 53 cw1 (by decide) (tgs (show stc 0 = (1, 0) by decide) (by decide)) q519 same_f (rf_ne g4) dX0_has_2_53 ?_
    obtain ⟨g5, h⟩ := gd_e h
    refine gx_getN (t := 2) (k := 1) (v := J (s0 (s0 0 0) 1)) 56 cw2 (by decide) g5 q235 same_f rfl dX0_has_2_56 ?_
    exact gx_iret 59 dX0_has_2_59 (rt h)
  replace h := if_f h c3
  by_cases c6 : i32 a1 = 1
  · replace h := if_t h c6
    refine gx_tableIn 3 60 1 dX0_has_2_3 c6 (by decide) (by decide) rfl (by decide) ?_
    refine gx_aload_n 60 1 dX0_has_2_60 rfl ?_
    obtain ⟨z7, ez7, h⟩ := opt_e h
    refine gx_callV (As := []) (rest := []) (st' := [J z7.1]) 61 0 cw1 (tgs (show stc 0 = (1, 0) by decide) (by decide)) (mx0_sayings ez7 l) (lw_V q1305 q1290 qs33 q147 q1291) (by decide +kernel) (by decide) rfl rfl (Nat.le_of_ble_eq_true rfl) dX0_has_2_61 rfl ?_
    exact gx_iret 64 dX0_has_2_64 (rt h)
  replace h := if_f h c6
  by_cases c8 : i32 a1 = 2
  · replace h := if_t h c8
    refine gx_tableIn 3 65 2 dX0_has_2_3 c8 (by decide) (by decide) rfl (by decide) ?_
    refine gx_aload_n 65 1 dX0_has_2_65 rfl ?_
    obtain ⟨z9, ez9, h⟩ := opt_e h
    refine gx_callV (As := []) (rest := []) (st' := [J z9.1]) 66 0 cw1 (tgs (show stc 0 = (1, 0) by decide) (by decide)) (mx0_verbs ez9 l) (lw_V q1306 q1308 qs34 q147 q1309) (by decide +kernel) (by decide) rfl rfl (Nat.le_of_ble_eq_true rfl) dX0_has_2_66 rfl ?_
    exact gx_iret 69 dX0_has_2_69 (rt h)
  replace h := if_f h c8
  by_cases c10 : i32 a1 = 3
  · replace h := if_t h c10
    refine gx_tableIn 3 70 3 dX0_has_2_3 c10 (by decide) (by decide) rfl (by decide) ?_
    refine gx_aload_n 70 1 dX0_has_2_70 rfl ?_
    refine gx_get (t := 1) (k := 11) (v := .ref (ad x0 36)) 71 cw1 (by decide) (tgs (show stc 0 = (1, 0) by decide) (by decide)) q534 same_f (rf_ne (nes (show stc 36 = (8, 6) by decide) (by decide))) dX0_has_2_71 ?_
    refine gx_getN (t := 8) (k := 0) (v := J (s0 36 0)) 74 cw8 (by decide) (tgs (show stc 36 = (8, 6) by decide) (by decide)) q474 same_f rfl dX0_has_2_74 ?_
    exact gx_iret 77 dX0_has_2_77 (rt h)
  replace h := if_f h c10
  by_cases c11 : i32 a1 = 4
  · replace h := if_t h c11
    refine gx_tableIn 3 78 4 dX0_has_2_3 c11 (by decide) (by decide) rfl (by decide) ?_
    refine gx_aload_n 78 1 dX0_has_2_78 rfl ?_
    refine gx_get (t := 1) (k := 11) (v := .ref (ad x0 36)) 79 cw1 (by decide) (tgs (show stc 0 = (1, 0) by decide) (by decide)) q534 same_f (rf_ne (nes (show stc 36 = (8, 6) by decide) (by decide))) dX0_has_2_79 ?_
    refine gx_getN (t := 8) (k := 1) (v := J (s0 36 1)) 82 cw8 (by decide) (tgs (show stc 36 = (8, 6) by decide) (by decide)) q476 same_f rfl dX0_has_2_82 ?_
    obtain ⟨z12, ez12, h⟩ := opt_e h
    refine gx_callS (As := [J (s0 36 1)]) (rest := []) (st' := [J z12.1]) 85 1 (mj16_bitCount ez12 l) (lw_S q1310 q1311 q187 q1312) (by decide +kernel) (by decide) rfl rfl (Nat.le_of_ble_eq_true rfl) dX0_has_2_85 rfl ?_
    exact gx_iret 88 dX0_has_2_88 (rt h)
  replace h := if_f h c11
  by_cases c13 : i32 a1 = 5
  · replace h := if_t h c13
    refine gx_tableIn 3 89 5 dX0_has_2_3 c13 (by decide) (by decide) rfl (by decide) ?_
    refine gx_iconst 89 dX0_has_2_89 ?_
    obtain ⟨x3_14, ex3_14, h⟩ := bnd_e h
    refine gx_istore_n 90 [(3, J x3_14), (2, J x2_2), (0, .ref (ad x0 0)), (1, J a1)] dX0_has_2_90 (by decide) ex3_14 rfl ?_
    refine gx_sub [2, 1, 0] rfl ?_
    refine wx0_has_2_L91 (fun x2_40 s41 h => ?_) FU _ _ _ h
    · refine gx_iload_n 138 0 dX0_has_2_138 rfl ?_
      exact gx_iret 139 dX0_has_2_139 (rt h)
  replace h := if_f h c13
  by_cases c42 : i32 a1 = 6
  · replace h := if_t h c42
    refine gx_tableIn 3 140 6 dX0_has_2_3 c42 (by decide) (by decide) rfl (by decide) ?_
    refine gx_aload_n 140 1 dX0_has_2_140 rfl ?_
    refine gx_get (t := 1) (k := 11) (v := .ref (ad x0 36)) 141 cw1 (by decide) (tgs (show stc 0 = (1, 0) by decide) (by decide)) q534 same_f (rf_ne (nes (show stc 36 = (8, 6) by decide) (by decide))) dX0_has_2_141 ?_
    refine gx_getN (t := 8) (k := 2) (v := J (s0 36 2)) 144 cw8 (by decide) (tgs (show stc 36 = (8, 6) by decide) (by decide)) q478 same_f rfl dX0_has_2_144 ?_
    exact gx_iret 147 dX0_has_2_147 (rt h)
  replace h := if_f h c42
  by_cases c43 : i32 a1 = 7
  · replace h := if_t h c43
    refine gx_tableIn 3 148 7 dX0_has_2_3 c43 (by decide) (by decide) rfl (by decide) ?_
    refine gx_aload_n 148 1 dX0_has_2_148 rfl ?_
    refine gx_get (t := 1) (k := 16) (v := J (s0 0 16)) 149 cw1 (by decide) (tgs (show stc 0 = (1, 0) by decide) (by decide)) q539 same_f rfl dX0_has_2_149 ?_
    exact gx_iret 152 dX0_has_2_152 (rt h)
  replace h := if_f h c43
  by_cases c44 : i32 a1 = 8
  · replace h := if_t h c44
    refine gx_tableIn 3 153 8 dX0_has_2_3 c44 (by decide) (by decide) rfl (by decide) ?_
    refine gx_aload_n 153 1 dX0_has_2_153 rfl ?_
    refine gx_get (t := 1) (k := 19) (v := J (s0 0 19)) 154 cw1 (by decide) (tgs (show stc 0 = (1, 0) by decide) (by decide)) q542 same_f rfl dX0_has_2_154 ?_
    exact gx_iret 157 dX0_has_2_157 (rt h)
  replace h := if_f h c44
  refine gx_tableOut 3 158 dX0_has_2_3 (by omega) (by decide) ?_
  refine gx_iconst 158 dX0_has_2_158 ?_
  exact gx_iret 159 dX0_has_2_159 (rt h)
/-! VerbAtDusk.taken -/
noncomputable def x0_taken (s0 : XS) : Option (Int × XS) :=
  bnd (s0 0 2) fun x1_1 =>
  bnd (ux s0 0 2 0) fun s2 =>
  some (x1_1, s2)
theorem mx0_taken {x0 : Nat} {D : XD} {s0 : XS} {res : Int × XS} (h : x0_taken s0 = some res) (l : Launch) : XMet0 l yX0_taken cX0_taken 2 (some .int) 1 true x0 D [.ref (ad x0 0)] s0 1 res := by
  refine XMet0.ofn [(0, .ref (ad x0 0))] "VerbAtDusk" "taken" rfl rfl (plainFor_of_name (by decide)) (Nat.le_of_ble_eq_true rfl) rfl ?_
  unfold x0_taken at h
  generalize nC s0 = cN
  generalize nS s0 = sN
  refine gx_aload_n 0 0 dX0_taken_0 rfl ?_
  refine gx_get (t := 1) (k := 2) (v := J (s0 0 2)) 1 cw1 (by decide) (tgs (show stc 0 = (1, 0) by decide) (by decide)) q522 same_f rfl dX0_taken_1 ?_
  obtain ⟨x1_1, ex1_1, h⟩ := bnd_e h
  refine gx_istore_n 4 [(1, J x1_1), (0, .ref (ad x0 0))] dX0_taken_4 (by decide) ex1_1 rfl ?_
  refine gx_aload_n 5 1 dX0_taken_5 rfl ?_
  refine gx_iconst 6 dX0_taken_6 ?_
  obtain ⟨s2, es2, h⟩ := bnd_e h
  refine gx_put (t := 1) (k := 2) (x := 0) (ty := .int) 7 cw1 (by decide) (tgs (show stc 0 = (1, 0) by decide) (by decide)) (st0 (show stc 0 = (1, 0) by decide) (by decide)) (stm (show stc 0 = (1, 0) by decide) (by decide)) q522 same_f rfl (by decide +kernel) rfl rfl (congrArg J (ux_s _ _ _ _)) es2 dX0_taken_7 ?_
  refine gx_iload_n 10 0 dX0_taken_10 rfl ?_
  exact gx_iret 11 dX0_taken_11 (rt h)
/-! VerbAtDusk.refuses -/
noncomputable def x0_refuses (a1 : Int) (s0 : XS) : Option (Int × XS) :=
  gd (ok 6 a1) <|
  gd (ok 6 a1) <|
  bnd (ux s0 13 (i32 a1) ((s0 13 (i32 a1)) + 1)) fun s4 =>
  some ((-1), s4)
theorem mx0_refuses {x0 : Nat} {D : XD} {a1 : Int} {s0 : XS} {res : Int × XS} (h : x0_refuses a1 s0 = some res) (l : Launch) : XMet0 l yX0_refuses cX0_refuses 2 (some .int) 1 true x0 D [.ref (ad x0 0), J a1] s0 1 res := by
  refine XMet0.ofn [(0, .ref (ad x0 0)), (1, J a1)] "VerbAtDusk" "refuses" rfl rfl (plainFor_of_name (by decide)) (Nat.le_of_ble_eq_true rfl) rfl ?_
  unfold x0_refuses at h
  generalize nC s0 = cN
  generalize nS s0 = sN
  refine gx_aload_n 0 0 dX0_refuses_0 rfl ?_
  refine gx_get (t := 1) (k := 8) (v := .ref (ad x0 13)) 1 cw1 (by decide) (tgs (show stc 0 = (1, 0) by decide) (by decide)) q529 same_f (rf_ne (nes (show stc 13 = (101, 6) by decide) (by decide))) dX0_refuses_1 ?_
  refine gx_iload_n 4 1 dX0_refuses_4 rfl ?_
  refine gx_dup2 5 dX0_refuses_5 rfl rfl ?_
  obtain ⟨g2, h⟩ := gd_e h
  refine gx_iald 6 (tgs (show stc 13 = (101, 6) by decide) (by decide)) (oks (show stc 13 = (101, 6) by decide) (by decide) g2) dX0_refuses_6 ?_
  refine gx_iconst 7 dX0_refuses_7 ?_
  refine gx_iadd 8 dX0_refuses_8 ?_
  obtain ⟨g3, h⟩ := gd_e h
  obtain ⟨s4, es4, h⟩ := bnd_e h
  refine gx_iast 9 (tgs (show stc 13 = (101, 6) by decide) (by decide)) (st0 (show stc 13 = (101, 6) by decide) (by decide)) (stm (show stc 13 = (101, 6) by decide) (by decide)) (oks (show stc 13 = (101, 6) by decide) (by decide) g3) es4 dX0_refuses_9 ?_
  refine gx_iconst 10 dX0_refuses_10 ?_
  exact gx_iret 11 dX0_refuses_11 (rt h)
/-! VerbAtDusk.put -/
noncomputable def x0_put_L3 (k33 : XS → Option (Int × XS)) : Nat → Int → Int → XS → Option (Int × XS)
  | 0, _, _, _ => none
  | n + 1, x1_3, x2_4, s5 =>
    if i32 x2_4 < 0 then
      k33 s5
    else
      bnd (ux s5 0 2 ((s5 0 2) + 1)) fun s8 =>
      gd (ok 1600 (s5 0 2)) <|
      bnd (ux s8 6 (i32 (s5 0 2)) (i8 (i8 (ishr x1_3 x2_4)))) fun s10 =>
      bnd (x2_4 + (-8)) fun x2_11 =>
      x0_put_L3 k33 n x1_3 x2_11 s10
noncomputable def x0_put (a1 : Int) (s0 : XS) : Option (Int × XS) :=
  bnd 24 fun x2_2 =>
  x0_put_L3
    (fun (s12 : XS) =>
      some (0, s12))
    FU a1 x2_2 s0
theorem wx0_put_L3 {l : Launch} {x0 : Nat} {D : XD} {cN sN : Nat} {res : Int × XS} {k33 : XS → Option (Int × XS)} (hk33 : ∀ (s6 : XS), k33 s6 = some res → GX l cX0_put "VerbAtDusk" 3 none "put" [] x0 D true 0 1 cN sN (0, res) s6 33 [] []) : ∀ (n : Nat) (x1_3 : Int) (x2_4 : Int) (s5 : XS), x0_put_L3 k33 n x1_3 x2_4 s5 = some res → GX l cX0_put "VerbAtDusk" 3 none "put" [] x0 D true 0 1 cN sN (0, res) s5 3 [(0, .ref (ad x0 0)), (1, J x1_3), (2, J x2_4)] [] := by
  intro n
  induction n with
  | zero =>
    intro x1_3 x2_4 s5 h
    cases h
  | succ n ih =>
    intro x1_3 x2_4 s5 h
    rw [x0_put_L3] at h
    refine gx_iload_n 3 2 dX0_put_3 rfl ?_
    refine gx_if_lt 4 33 dX0_put_4 (by decide) (fun c7 => ?_) (fun c7 => ?_)
    · replace h := if_t h c7
      refine gx_sub [] rfl ?_
      exact hk33 _ h
    · replace h := if_f h c7
      refine gx_aload_n 7 0 dX0_put_7 rfl ?_
      refine gx_get (t := 1) (k := 1) (v := .ref (ad x0 6)) 8 cw1 (by decide) (tgs (show stc 0 = (1, 0) by decide) (by decide)) q521 same_f (rf_ne (nes (show stc 6 = (102, 1600) by decide) (by decide))) dX0_put_8 ?_
      refine gx_aload_n 11 0 dX0_put_11 rfl ?_
      refine gx_dup 12 dX0_put_12 rfl ?_
      refine gx_get (t := 1) (k := 2) (v := J (s5 0 2)) 13 cw1 (by decide) (tgs (show stc 0 = (1, 0) by decide) (by decide)) q522 same_f rfl dX0_put_13 ?_
      refine gx_dup_x1 16 dX0_put_16 rfl rfl ?_
      refine gx_iconst 17 dX0_put_17 ?_
      refine gx_iadd 18 dX0_put_18 ?_
      obtain ⟨s8, es8, h⟩ := bnd_e h
      refine gx_put (t := 1) (k := 2) (x := ((s5 0 2) + 1)) (ty := .int) 19 cw1 (by decide) (tgs (show stc 0 = (1, 0) by decide) (by decide)) (st0 (show stc 0 = (1, 0) by decide) (by decide)) (stm (show stc 0 = (1, 0) by decide) (by decide)) q522 same_f rfl (by decide +kernel) rfl rfl (congrArg J (ux_s _ _ _ _)) es8 dX0_put_19 ?_
      refine gx_iload_n 22 1 dX0_put_22 rfl ?_
      refine gx_iload_n 23 2 dX0_put_23 rfl ?_
      refine gx_ishr 24 dX0_put_24 ?_
      refine gx_i2b 25 dX0_put_25 ?_
      obtain ⟨g9, h⟩ := gd_e h
      obtain ⟨s10, es10, h⟩ := bnd_e h
      refine gx_bast 26 (tgs (show stc 6 = (102, 1600) by decide) (by decide)) (st0 (show stc 6 = (102, 1600) by decide) (by decide)) (stm (show stc 6 = (102, 1600) by decide) (by decide)) (oks (show stc 6 = (102, 1600) by decide) (by decide) g9) es10 dX0_put_26 ?_
      obtain ⟨x2_11, ex2_11, h⟩ := bnd_e h
      refine gx_iinc 27 2 [(2, J x2_11), (0, .ref (ad x0 0)), (1, J x1_3)] dX0_put_27 rfl ex2_11 (by decide) rfl ?_
      refine gx_goto 30 3 dX0_put_30 (by decide) ?_
      refine gx_sub [1, 2, 0] rfl ?_
      exact ih _ _ _ h
theorem mx0_put {x0 : Nat} {D : XD} {a1 : Int} {s0 : XS} {res : Int × XS} (h : x0_put a1 s0 = some res) (l : Launch) : XMet0 l yX0_put cX0_put 3 none 1 true x0 D [.ref (ad x0 0), J a1] s0 0 res := by
  refine XMet0.ofn [(0, .ref (ad x0 0)), (1, J a1)] "VerbAtDusk" "put" rfl rfl (plainFor_of_name (by decide)) (Nat.le_of_ble_eq_true rfl) rfl ?_
  unfold x0_put at h
  generalize nC s0 = cN
  generalize nS s0 = sN
  refine gx_bipush 0 dX0_put_0 (by decide) ?_
  obtain ⟨x2_2, ex2_2, h⟩ := bnd_e h
  refine gx_istore_n 2 [(2, J x2_2), (0, .ref (ad x0 0)), (1, J a1)] dX0_put_2 (by decide) ex2_2 rfl ?_
  refine gx_sub [1, 2, 0] rfl ?_
  refine wx0_put_L3 (fun s12 h => ?_) FU _ _ _ h
  · exact gx_vret 33 dX0_put_33 (rt h)
/-! VerbAtDusk.feed -/
noncomputable def x0_feed (a1 : Int) (a2 : Int) (a3 : Int) (a4 : Int) (a5 : Int) (s0 : XS) : Option (Int × XS) :=
  if i32 ((s0 0 2) + 20) ≤ i32 1600 then
    Option.bind (x0_put a1 s0) fun z7 =>
    Option.bind (x0_put a2 z7.2) fun z8 =>
    Option.bind (x0_put a3 z8.2) fun z9 =>
    Option.bind (x0_put a4 z9.2) fun z10 =>
    Option.bind (x0_put a5 z10.2) fun z11 =>
    some ((z11.2 0 2), z11.2)
  else
    Option.bind (x0_refuses 0 s0) fun z12 =>
    some (z12.1, z12.2)
theorem mx0_feed {x0 : Nat} {D : XD} {a1 : Int} {a2 : Int} {a3 : Int} {a4 : Int} {a5 : Int} {s0 : XS} {res : Int × XS} (h : x0_feed a1 a2 a3 a4 a5 s0 = some res) (l : Launch) : XMet0 l yX0_feed cX0_feed 6 (some .int) 2 true x0 D [.ref (ad x0 0), J a1, J a2, J a3, J a4, J a5] s0 1 res := by
  refine XMet0.ofn [(0, .ref (ad x0 0)), (1, J a1), (2, J a2), (3, J a3), (4, J a4), (5, J a5)] "VerbAtDusk" "feed" rfl rfl (plainFor_of_name (by decide)) (Nat.le_of_ble_eq_true rfl) rfl ?_
  unfold x0_feed at h
  generalize nC s0 = cN
  generalize nS s0 = sN
  refine gx_aload_n 0 0 dX0_feed_0 rfl ?_
  refine gx_get (t := 1) (k := 2) (v := J (s0 0 2)) 1 cw1 (by decide) (tgs (show stc 0 = (1, 0) by decide) (by decide)) q522 same_f rfl dX0_feed_1 ?_
  refine gx_bipush 4 dX0_feed_4 (by decide) ?_
  refine gx_iadd 6 dX0_feed_6 ?_
  refine gx_sipush 7 dX0_feed_7 (by decide) ?_
  refine gx_icmp_le 10 19 dX0_feed_10 (by decide) (fun c6 => ?_) (fun c6 => ?_)
  · replace h := if_t h c6
    refine gx_aload_n 19 0 dX0_feed_19 rfl ?_
    refine gx_iload_n 20 1 dX0_feed_20 rfl ?_
    obtain ⟨z7, ez7, h⟩ := opt_e h
    refine gx_callV (As := [J a1]) (rest := []) (st' := []) 21 1 cw1 (tgs (show stc 0 = (1, 0) by decide) (by decide)) (mx0_put ez7 l) (lw_V q604 q606 qs2 q147 q607) (by decide +kernel) (by decide) rfl rfl (Nat.le_of_ble_eq_true rfl) dX0_feed_21 rfl ?_
    refine gx_aload_n 24 0 dX0_feed_24 rfl ?_
    refine gx_iload_n 25 2 dX0_feed_25 rfl ?_
    obtain ⟨z8, ez8, h⟩ := opt_e h
    refine gx_callV (As := [J a2]) (rest := []) (st' := []) 26 1 cw1 (tgs (show stc 0 = (1, 0) by decide) (by decide)) (mx0_put ez8 l) (lw_V q604 q606 qs2 q147 q607) (by decide +kernel) (by decide) rfl rfl (Nat.le_of_ble_eq_true rfl) dX0_feed_26 rfl ?_
    refine gx_aload_n 29 0 dX0_feed_29 rfl ?_
    refine gx_iload_n 30 3 dX0_feed_30 rfl ?_
    obtain ⟨z9, ez9, h⟩ := opt_e h
    refine gx_callV (As := [J a3]) (rest := []) (st' := []) 31 1 cw1 (tgs (show stc 0 = (1, 0) by decide) (by decide)) (mx0_put ez9 l) (lw_V q604 q606 qs2 q147 q607) (by decide +kernel) (by decide) rfl rfl (Nat.le_of_ble_eq_true rfl) dX0_feed_31 rfl ?_
    refine gx_aload_n 34 0 dX0_feed_34 rfl ?_
    refine gx_iload 35 4 dX0_feed_35 rfl ?_
    obtain ⟨z10, ez10, h⟩ := opt_e h
    refine gx_callV (As := [J a4]) (rest := []) (st' := []) 37 1 cw1 (tgs (show stc 0 = (1, 0) by decide) (by decide)) (mx0_put ez10 l) (lw_V q604 q606 qs2 q147 q607) (by decide +kernel) (by decide) rfl rfl (Nat.le_of_ble_eq_true rfl) dX0_feed_37 rfl ?_
    refine gx_aload_n 40 0 dX0_feed_40 rfl ?_
    refine gx_iload 41 5 dX0_feed_41 rfl ?_
    obtain ⟨z11, ez11, h⟩ := opt_e h
    refine gx_callV (As := [J a5]) (rest := []) (st' := []) 43 1 cw1 (tgs (show stc 0 = (1, 0) by decide) (by decide)) (mx0_put ez11 l) (lw_V q604 q606 qs2 q147 q607) (by decide +kernel) (by decide) rfl rfl (Nat.le_of_ble_eq_true rfl) dX0_feed_43 rfl ?_
    refine gx_aload_n 46 0 dX0_feed_46 rfl ?_
    refine gx_get (t := 1) (k := 2) (v := J (z11.2 0 2)) 47 cw1 (by decide) (tgs (show stc 0 = (1, 0) by decide) (by decide)) q522 same_f rfl dX0_feed_47 ?_
    exact gx_iret 50 dX0_feed_50 (rt h)
  · replace h := if_f h c6
    refine gx_aload_n 13 0 dX0_feed_13 rfl ?_
    refine gx_iconst 14 dX0_feed_14 ?_
    obtain ⟨z12, ez12, h⟩ := opt_e h
    refine gx_callV (As := [J 0]) (rest := []) (st' := [J z12.1]) 15 1 cw1 (tgs (show stc 0 = (1, 0) by decide) (by decide)) (mx0_refuses ez12 l) (lw_V q600 q602 qs1 q147 q603) (by decide +kernel) (by decide) rfl rfl (Nat.le_of_ble_eq_true rfl) dX0_feed_15 rfl ?_
    exact gx_iret 18 dX0_feed_18 (rt h)
/-! VerbAtDusk.end -/
noncomputable def x0_end (a1 : Int) (s0 : XS) : Option (Int × XS) :=
  bnd (fun (s2 : XS) =>
      Option.bind (x0_refuses 0 s2) fun z3 =>
      if i32 z3.1 < 0 then
        some (0, z3.2)
      else
        some (1, z3.2)) fun j5 =>
  if i32 a1 < 0 then
    j5 s0
  else
    if i32 a1 ≤ i32 (s0 0 2) then
      bnd (ux s0 0 2 a1) fun s8 =>
      some (1, s8)
    else
      j5 s0
theorem mx0_end {x0 : Nat} {D : XD} {a1 : Int} {s0 : XS} {res : Int × XS} (h : x0_end a1 s0 = some res) (l : Launch) : XMet0 l yX0_end cX0_end 2 (some .boolean) 2 true x0 D [.ref (ad x0 0), J a1] s0 1 res := by
  refine XMet0.ofn [(0, .ref (ad x0 0)), (1, J a1)] "VerbAtDusk" "end" rfl rfl (plainFor_of_name (by decide)) (Nat.le_of_ble_eq_true rfl) rfl ?_
  unfold x0_end at h
  generalize nC s0 = cN
  generalize nS s0 = sN
  refine gx_iload_n 0 1 dX0_end_0 rfl ?_
  obtain ⟨j5, ej5, h⟩ := bnd_e h
  have hj5 : ∀ (s2 : XS), j5 s2 = some res → GX l cX0_end "VerbAtDusk" 2 (some .boolean) "end" [] x0 D true 1 2 cN sN (0, res) s2 12 [(0, .ref (ad x0 0))] [] := by
    clear h
    intro s2 h
    subst ej5
    refine gx_aload_n 12 0 dX0_end_12 rfl ?_
    refine gx_iconst 13 dX0_end_13 ?_
    obtain ⟨z3, ez3, h⟩ := opt_e h
    refine gx_callV (As := [J 0]) (rest := []) (st' := [J z3.1]) 14 1 cw1 (tgs (show stc 0 = (1, 0) by decide) (by decide)) (mx0_refuses ez3 l) (lw_V q600 q602 qs1 q147 q603) (by decide +kernel) (by decide) rfl rfl (Nat.le_of_ble_eq_true rfl) dX0_end_14 rfl ?_
    refine gx_if_lt 17 24 dX0_end_17 (by decide) (fun c4 => ?_) (fun c4 => ?_)
    · replace h := if_t h c4
      refine gx_iconst 24 dX0_end_24 ?_
      exact gx_zret 25 dX0_end_25 (by decide) (rt h)
    · replace h := if_f h c4
      refine gx_iconst 20 dX0_end_20 ?_
      refine gx_goto 21 25 dX0_end_21 (by decide) ?_
      exact gx_zret 25 dX0_end_25 (by decide) (rt h)
  refine gx_if_lt 1 12 dX0_end_1 (by decide) (fun c6 => ?_) (fun c6 => ?_)
  · replace h := if_t h c6
    refine gx_sub [0] rfl ?_
    exact hj5 _ h
  · replace h := if_f h c6
    refine gx_iload_n 4 1 dX0_end_4 rfl ?_
    refine gx_aload_n 5 0 dX0_end_5 rfl ?_
    refine gx_get (t := 1) (k := 2) (v := J (s0 0 2)) 6 cw1 (by decide) (tgs (show stc 0 = (1, 0) by decide) (by decide)) q522 same_f rfl dX0_end_6 ?_
    refine gx_icmp_le 9 26 dX0_end_9 (by decide) (fun c7 => ?_) (fun c7 => ?_)
    · replace h := if_t h c7
      refine gx_aload_n 26 0 dX0_end_26 rfl ?_
      refine gx_iload_n 27 1 dX0_end_27 rfl ?_
      obtain ⟨s8, es8, h⟩ := bnd_e h
      refine gx_put (t := 1) (k := 2) (x := a1) (ty := .int) 28 cw1 (by decide) (tgs (show stc 0 = (1, 0) by decide) (by decide)) (st0 (show stc 0 = (1, 0) by decide) (by decide)) (stm (show stc 0 = (1, 0) by decide) (by decide)) q522 same_f rfl (by decide +kernel) rfl rfl (congrArg J (ux_s _ _ _ _)) es8 dX0_end_28 ?_
      refine gx_iconst 31 dX0_end_31 ?_
      exact gx_zret 32 dX0_end_32 (by decide) (rt h)
    · replace h := if_f h c7
      refine gx_sub [0] rfl ?_
      exact hj5 _ h
/-! VerbAtDusk.byteAt -/
noncomputable def x0_byteAt (a1 : Int) (s0 : XS) : Option (Int × XS) :=
  gd (ok 1600 a1) <|
  some ((iand (s0 6 (i32 a1)) 255), s0)
theorem mx0_byteAt {x0 : Nat} {D : XD} {a1 : Int} {s0 : XS} {res : Int × XS} (h : x0_byteAt a1 s0 = some res) (l : Launch) : XMet0 l yX0_byteAt cX0_byteAt 2 (some .int) 1 true x0 D [.ref (ad x0 0), J a1] s0 1 res := by
  refine XMet0.ofn [(0, .ref (ad x0 0)), (1, J a1)] "VerbAtDusk" "byteAt" rfl rfl (plainFor_of_name (by decide)) (Nat.le_of_ble_eq_true rfl) rfl ?_
  unfold x0_byteAt at h
  generalize nC s0 = cN
  generalize nS s0 = sN
  refine gx_aload_n 0 0 dX0_byteAt_0 rfl ?_
  refine gx_get (t := 1) (k := 1) (v := .ref (ad x0 6)) 1 cw1 (by decide) (tgs (show stc 0 = (1, 0) by decide) (by decide)) q521 same_f (rf_ne (nes (show stc 6 = (102, 1600) by decide) (by decide))) dX0_byteAt_1 ?_
  refine gx_iload_n 4 1 dX0_byteAt_4 rfl ?_
  obtain ⟨g2, h⟩ := gd_e h
  refine gx_bald 5 (tgs (show stc 6 = (102, 1600) by decide) (by decide)) (oks (show stc 6 = (102, 1600) by decide) (by decide) g2) dX0_byteAt_5 ?_
  refine gx_sipush 6 dX0_byteAt_6 (by decide) ?_
  refine gx_iand 9 dX0_byteAt_9 ?_
  exact gx_iret 10 dX0_byteAt_10 (rt h)
/-! VerbAtDusk.status -/
noncomputable def x0_status (a1 : Int) (s0 : XS) : Option (Int × XS) :=
  Option.bind (x0_is a1 0 5 s0) fun z2 =>
  if i32 z2.1 = 0 then
    some ((-1), z2.2)
  else
    gd (ok 6 a1) <|
    some ((z2.2 13 (i32 a1)), z2.2)
theorem mx0_status {x0 : Nat} {D : XD} {a1 : Int} {s0 : XS} {res : Int × XS} (h : x0_status a1 s0 = some res) (l : Launch) : XMet0 l yX0_status cX0_status 2 (some .int) 2 true x0 D [.ref (ad x0 0), J a1] s0 1 res := by
  refine XMet0.ofn [(0, .ref (ad x0 0)), (1, J a1)] "VerbAtDusk" "status" rfl rfl (plainFor_of_name (by decide)) (Nat.le_of_ble_eq_true rfl) rfl ?_
  unfold x0_status at h
  generalize nC s0 = cN
  generalize nS s0 = sN
  refine gx_iload_n 0 1 dX0_status_0 rfl ?_
  refine gx_iconst 1 dX0_status_1 ?_
  refine gx_iconst 2 dX0_status_2 ?_
  obtain ⟨z2, ez2, h⟩ := opt_e h
  refine gx_callS (As := [J a1, J 0, J 5]) (rest := []) (st' := [J z2.1]) 3 3 (mx0_is ez2 l) (lw_S q1320 q748 q147 q749) (by decide +kernel) (by decide) rfl rfl (Nat.le_of_ble_eq_true rfl) dX0_status_3 rfl ?_
  refine gx_if_eq 6 18 dX0_status_6 (by decide) (fun c3 => ?_) (fun c3 => ?_)
  · replace h := if_t h c3
    refine gx_iconst 18 dX0_status_18 ?_
    exact gx_iret 19 dX0_status_19 (rt h)
  · replace h := if_f h c3
    refine gx_aload_n 9 0 dX0_status_9 rfl ?_
    refine gx_get (t := 1) (k := 8) (v := .ref (ad x0 13)) 10 cw1 (by decide) (tgs (show stc 0 = (1, 0) by decide) (by decide)) q529 same_f (rf_ne (nes (show stc 13 = (101, 6) by decide) (by decide))) dX0_status_10 ?_
    refine gx_iload_n 13 1 dX0_status_13 rfl ?_
    obtain ⟨g4, h⟩ := gd_e h
    refine gx_iald 14 (tgs (show stc 13 = (101, 6) by decide) (by decide)) (oks (show stc 13 = (101, 6) by decide) (by decide) g4) dX0_status_14 ?_
    refine gx_goto 15 19 dX0_status_15 (by decide) ?_
    exact gx_iret 19 dX0_status_19 (rt h)
/-! VerbAtDusk.octet -/
noncomputable def x0_octet (a1 : Int) (s0 : XS) : Option (Int × XS) :=
  bnd (fun (s2 : XS) =>
      some ((-1), s2)) fun j3 =>
  if i32 a1 < 0 then
    j3 s0
  else
    if i32 a1 < i32 (s0 0 23) then
      gd (ok 70 a1) <|
      some ((iand (s0 1437 (i32 a1)) 255), s0)
    else
      j3 s0
theorem mx0_octet {x0 : Nat} {D : XD} {a1 : Int} {s0 : XS} {res : Int × XS} (h : x0_octet a1 s0 = some res) (l : Launch) : XMet0 l yX0_octet cX0_octet 2 (some .int) 1 true x0 D [.ref (ad x0 0), J a1] s0 1 res := by
  refine XMet0.ofn [(0, .ref (ad x0 0)), (1, J a1)] "VerbAtDusk" "octet" rfl rfl (plainFor_of_name (by decide)) (Nat.le_of_ble_eq_true rfl) rfl ?_
  unfold x0_octet at h
  generalize nC s0 = cN
  generalize nS s0 = sN
  refine gx_iload_n 0 1 dX0_octet_0 rfl ?_
  obtain ⟨j3, ej3, h⟩ := bnd_e h
  have hj3 : ∀ (s2 : XS), j3 s2 = some res → GX l cX0_octet "VerbAtDusk" 2 (some .int) "octet" [] x0 D true 1 1 cN sN (0, res) s2 12 [] [] := by
    clear h
    intro s2 h
    subst ej3
    refine gx_iconst 12 dX0_octet_12 ?_
    refine gx_goto 13 26 dX0_octet_13 (by decide) ?_
    exact gx_iret 26 dX0_octet_26 (rt h)
  refine gx_if_lt 1 12 dX0_octet_1 (by decide) (fun c4 => ?_) (fun c4 => ?_)
  · replace h := if_t h c4
    refine gx_sub [] rfl ?_
    exact hj3 _ h
  · replace h := if_f h c4
    refine gx_iload_n 4 1 dX0_octet_4 rfl ?_
    refine gx_aload_n 5 0 dX0_octet_5 rfl ?_
    refine gx_get (t := 1) (k := 23) (v := J (s0 0 23)) 6 cw1 (by decide) (tgs (show stc 0 = (1, 0) by decide) (by decide)) q546 same_f rfl dX0_octet_6 ?_
    refine gx_icmp_lt 9 16 dX0_octet_9 (by decide) (fun c5 => ?_) (fun c5 => ?_)
    · replace h := if_t h c5
      refine gx_aload_n 16 0 dX0_octet_16 rfl ?_
      refine gx_get (t := 1) (k := 22) (v := .ref (ad x0 1437)) 17 cw1 (by decide) (tgs (show stc 0 = (1, 0) by decide) (by decide)) q545 same_f (rf_ne (nes (show stc 1437 = (102, 70) by decide) (by decide))) dX0_octet_17 ?_
      refine gx_iload_n 20 1 dX0_octet_20 rfl ?_
      obtain ⟨g6, h⟩ := gd_e h
      refine gx_bald 21 (tgs (show stc 1437 = (102, 70) by decide) (by decide)) (oks (show stc 1437 = (102, 70) by decide) (by decide) g6) dX0_octet_21 ?_
      refine gx_sipush 22 dX0_octet_22 (by decide) ?_
      refine gx_iand 25 dX0_octet_25 ?_
      exact gx_iret 26 dX0_octet_26 (rt h)
    · replace h := if_f h c5
      refine gx_sub [] rfl ?_
      exact hj3 _ h
/-! VerbAtDusk.writes -/
noncomputable def x0_writes (a1 : Int) (s0 : XS) : Option (Int × XS) :=
  bnd (ux s0 0 23 ((s0 0 23) + 1)) fun s2 =>
  gd (ok 70 (s0 0 23)) <|
  bnd (ux s2 1437 (i32 (s0 0 23)) (i8 (i8 a1))) fun s4 =>
  some (0, s4)
theorem mx0_writes {x0 : Nat} {D : XD} {a1 : Int} {s0 : XS} {res : Int × XS} (h : x0_writes a1 s0 = some res) (l : Launch) : XMet0 l yX0_writes cX0_writes 2 none 1 true x0 D [.ref (ad x0 0), J a1] s0 0 res := by
  refine XMet0.ofn [(0, .ref (ad x0 0)), (1, J a1)] "VerbAtDusk" "writes" rfl rfl (plainFor_of_name (by decide)) (Nat.le_of_ble_eq_true rfl) rfl ?_
  unfold x0_writes at h
  generalize nC s0 = cN
  generalize nS s0 = sN
  refine gx_aload_n 0 0 dX0_writes_0 rfl ?_
  refine gx_get (t := 1) (k := 22) (v := .ref (ad x0 1437)) 1 cw1 (by decide) (tgs (show stc 0 = (1, 0) by decide) (by decide)) q545 same_f (rf_ne (nes (show stc 1437 = (102, 70) by decide) (by decide))) dX0_writes_1 ?_
  refine gx_aload_n 4 0 dX0_writes_4 rfl ?_
  refine gx_dup 5 dX0_writes_5 rfl ?_
  refine gx_get (t := 1) (k := 23) (v := J (s0 0 23)) 6 cw1 (by decide) (tgs (show stc 0 = (1, 0) by decide) (by decide)) q546 same_f rfl dX0_writes_6 ?_
  refine gx_dup_x1 9 dX0_writes_9 rfl rfl ?_
  refine gx_iconst 10 dX0_writes_10 ?_
  refine gx_iadd 11 dX0_writes_11 ?_
  obtain ⟨s2, es2, h⟩ := bnd_e h
  refine gx_put (t := 1) (k := 23) (x := ((s0 0 23) + 1)) (ty := .int) 12 cw1 (by decide) (tgs (show stc 0 = (1, 0) by decide) (by decide)) (st0 (show stc 0 = (1, 0) by decide) (by decide)) (stm (show stc 0 = (1, 0) by decide) (by decide)) q546 same_f rfl (by decide +kernel) rfl rfl (congrArg J (ux_s _ _ _ _)) es2 dX0_writes_12 ?_
  refine gx_iload_n 15 1 dX0_writes_15 rfl ?_
  refine gx_i2b 16 dX0_writes_16 ?_
  obtain ⟨g3, h⟩ := gd_e h
  obtain ⟨s4, es4, h⟩ := bnd_e h
  refine gx_bast 17 (tgs (show stc 1437 = (102, 70) by decide) (by decide)) (st0 (show stc 1437 = (102, 70) by decide) (by decide)) (stm (show stc 1437 = (102, 70) by decide) (by decide)) (oks (show stc 1437 = (102, 70) by decide) (by decide) g3) es4 dX0_writes_17 ?_
  exact gx_vret 18 dX0_writes_18 (rt h)
/-! VerbAtDusk.fault -/
noncomputable def x0_fault (a1 : Int) (s0 : XS) : Option (Int × XS) :=
  if i32 a1 = 0 then
    some ((s0 0 3), s0)
  else
    if i32 a1 = i32 1 then
      some ((s0 0 4), s0)
    else
      some ((-1), s0)
theorem mx0_fault {x0 : Nat} {D : XD} {a1 : Int} {s0 : XS} {res : Int × XS} (h : x0_fault a1 s0 = some res) (l : Launch) : XMet0 l yX0_fault cX0_fault 2 (some .int) 1 true x0 D [.ref (ad x0 0), J a1] s0 1 res := by
  refine XMet0.ofn [(0, .ref (ad x0 0)), (1, J a1)] "VerbAtDusk" "fault" rfl rfl (plainFor_of_name (by decide)) (Nat.le_of_ble_eq_true rfl) rfl ?_
  unfold x0_fault at h
  generalize nC s0 = cN
  generalize nS s0 = sN
  refine gx_iload_n 0 1 dX0_fault_0 rfl ?_
  refine gx_if_ne 1 11 dX0_fault_1 (by decide) (fun c2 => ?_) (fun c2 => ?_)
  · replace h := if_f h c2
    refine gx_iload_n 11 1 dX0_fault_11 rfl ?_
    refine gx_iconst 12 dX0_fault_12 ?_
    refine gx_icmp_ne 13 23 dX0_fault_13 (by decide) (fun c3 => ?_) (fun c3 => ?_)
    · replace h := if_f h c3
      refine gx_iconst 23 dX0_fault_23 ?_
      exact gx_iret 24 dX0_fault_24 (rt h)
    · replace h := if_t h c3
      refine gx_aload_n 16 0 dX0_fault_16 rfl ?_
      refine gx_get (t := 1) (k := 4) (v := J (s0 0 4)) 17 cw1 (by decide) (tgs (show stc 0 = (1, 0) by decide) (by decide)) q524 same_f rfl dX0_fault_17 ?_
      refine gx_goto 20 24 dX0_fault_20 (by decide) ?_
      exact gx_iret 24 dX0_fault_24 (rt h)
  · replace h := if_t h c2
    refine gx_aload_n 4 0 dX0_fault_4 rfl ?_
    refine gx_get (t := 1) (k := 3) (v := J (s0 0 3)) 5 cw1 (by decide) (tgs (show stc 0 = (1, 0) by decide) (by decide)) q523 same_f rfl dX0_fault_5 ?_
    refine gx_goto 8 24 dX0_fault_8 (by decide) ?_
    exact gx_iret 24 dX0_fault_24 (rt h)
/-! VerbAtDusk.isLetter -/
noncomputable def x0_isLetter (a1 : Int) (s0 : XS) : Option (Int × XS) :=
  if i32 a1 < i32 97 then
    some (0, s0)
  else
    if i32 122 < i32 a1 then
      some (0, s0)
    else
      some (1, s0)
theorem mx0_isLetter {x0 : Nat} {D : XD} {a1 : Int} {s0 : XS} {res : Int × XS} (h : x0_isLetter a1 s0 = some res) (l : Launch) : XMet0 l yX0_isLetter cX0_isLetter 1 (some .boolean) 1 true x0 D [J a1] s0 1 res := by
  refine XMet0.ofn [(0, J a1)] "VerbAtDusk" "isLetter" rfl rfl (plainFor_of_name (by decide)) (Nat.le_of_ble_eq_true rfl) rfl ?_
  unfold x0_isLetter at h
  generalize nC s0 = cN
  generalize nS s0 = sN
  refine gx_iload_n 0 0 dX0_isLetter_0 rfl ?_
  refine gx_bipush 1 dX0_isLetter_1 (by decide) ?_
  refine gx_icmp_lt 3 16 dX0_isLetter_3 (by decide) (fun c2 => ?_) (fun c2 => ?_)
  · replace h := if_t h c2
    refine gx_iconst 16 dX0_isLetter_16 ?_
    exact gx_zret 17 dX0_isLetter_17 (by decide) (rt h)
  · replace h := if_f h c2
    refine gx_iload_n 6 0 dX0_isLetter_6 rfl ?_
    refine gx_bipush 7 dX0_isLetter_7 (by decide) ?_
    refine gx_icmp_gt 9 16 dX0_isLetter_9 (by decide) (fun c3 => ?_) (fun c3 => ?_)
    · replace h := if_t h c3
      refine gx_iconst 16 dX0_isLetter_16 ?_
      exact gx_zret 17 dX0_isLetter_17 (by decide) (rt h)
    · replace h := if_f h c3
      refine gx_iconst 12 dX0_isLetter_12 ?_
      refine gx_goto 13 17 dX0_isLetter_13 (by decide) ?_
      exact gx_zret 17 dX0_isLetter_17 (by decide) (rt h)
/-! VerbAtDusk.isDigit -/
noncomputable def x0_isDigit (a1 : Int) (s0 : XS) : Option (Int × XS) :=
  if i32 a1 < i32 48 then
    some (0, s0)
  else
    if i32 57 < i32 a1 then
      some (0, s0)
    else
      some (1, s0)
theorem mx0_isDigit {x0 : Nat} {D : XD} {a1 : Int} {s0 : XS} {res : Int × XS} (h : x0_isDigit a1 s0 = some res) (l : Launch) : XMet0 l yX0_isDigit cX0_isDigit 1 (some .boolean) 1 true x0 D [J a1] s0 1 res := by
  refine XMet0.ofn [(0, J a1)] "VerbAtDusk" "isDigit" rfl rfl (plainFor_of_name (by decide)) (Nat.le_of_ble_eq_true rfl) rfl ?_
  unfold x0_isDigit at h
  generalize nC s0 = cN
  generalize nS s0 = sN
  refine gx_iload_n 0 0 dX0_isDigit_0 rfl ?_
  refine gx_bipush 1 dX0_isDigit_1 (by decide) ?_
  refine gx_icmp_lt 3 16 dX0_isDigit_3 (by decide) (fun c2 => ?_) (fun c2 => ?_)
  · replace h := if_t h c2
    refine gx_iconst 16 dX0_isDigit_16 ?_
    exact gx_zret 17 dX0_isDigit_17 (by decide) (rt h)
  · replace h := if_f h c2
    refine gx_iload_n 6 0 dX0_isDigit_6 rfl ?_
    refine gx_bipush 7 dX0_isDigit_7 (by decide) ?_
    refine gx_icmp_gt 9 16 dX0_isDigit_9 (by decide) (fun c3 => ?_) (fun c3 => ?_)
    · replace h := if_t h c3
      refine gx_iconst 16 dX0_isDigit_16 ?_
      exact gx_zret 17 dX0_isDigit_17 (by decide) (rt h)
    · replace h := if_f h c3
      refine gx_iconst 12 dX0_isDigit_12 ?_
      refine gx_goto 13 17 dX0_isDigit_13 (by decide) ?_
      exact gx_zret 17 dX0_isDigit_17 (by decide) (rt h)
/-! VerbAtDusk.held -/
noncomputable def x0_held (a1 : Int) (s0 : XS) : Option (Int × XS) :=
  Option.bind (j12_min_2 true 1000000 a1 s0) fun z2 =>
  Option.bind (j12_max_2 true (-1000000) z2.1 z2.2) fun z3 =>
  some (z3.1, z3.2)
theorem mx0_held {x0 : Nat} {D : XD} {a1 : Int} {s0 : XS} {res : Int × XS} (h : x0_held a1 s0 = some res) (l : Launch) : XMet0 l yX0_held cX0_held 2 (some .long) 2 true x0 D [Lg a1] s0 2 res := by
  refine XMet0.ofn [(0, Lg a1)] "VerbAtDusk" "held" rfl rfl (plainFor_of_name (by decide)) (Nat.le_of_ble_eq_true rfl) rfl ?_
  unfold x0_held at h
  generalize nC s0 = cN
  generalize nS s0 = sN
  refine gx_ldc2 (v := -1000000) 0 dX0_held_0 q1398 (by decide) ?_
  refine gx_ldc2 (v := 1000000) 3 dX0_held_3 q1399 (by decide) ?_
  refine gx_lload_n 6 0 dX0_held_6 rfl ?_
  obtain ⟨z2, ez2, h⟩ := opt_e h
  refine gx_callS (As := [Lg 1000000, Lg a1]) (rest := [Lg (-1000000)]) (st' := [Lg z2.1, Lg (-1000000)]) 7 2 (mj12_min_2 ez2 l) (lw_S q1400 q1401 q170 q1402) (by decide +kernel) (by decide) rfl rfl (Nat.le_of_ble_eq_true rfl) dX0_held_7 rfl ?_
  obtain ⟨z3, ez3, h⟩ := opt_e h
  refine gx_callS (As := [Lg (-1000000), Lg z2.1]) (rest := []) (st' := [Lg z3.1]) 10 2 (mj12_max_2 ez3 l) (lw_S q1403 q1404 q170 q1405) (by decide +kernel) (by decide) rfl rfl (Nat.le_of_ble_eq_true rfl) dX0_held_10 rfl ?_
  exact gx_lret 13 dX0_held_13 (rt h)
