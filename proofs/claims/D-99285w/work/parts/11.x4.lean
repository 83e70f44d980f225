/-! THE SYSTEM: methods as functions, and their walks (written by xparts.py) -/
set_option maxRecDepth 100000
/-! VerbAtDusk.later -/
noncomputable def x0_later_L37 (k56 : Int → XS → Option (Int × XS)) : Nat → Int → Int → Int → XS → Option (Int × XS)
  | 0, _, _, _, _ => none
  | n + 1, x1_10, x2_11, x3_12, s13 =>
    if i32 x2_11 < i32 x3_12 then
      k56 x1_10 s13
    else
      Option.bind (x7_passes 99 s13) fun z17 =>
      bnd (x3_12 + 1) fun x3_18 =>
      x0_later_L37 k56 n x1_10 x2_11 x3_18 z17.2
noncomputable def x0_later (a1 : Int) (a2 : Int) (s0 : XS) : Option (Int × XS) :=
  Option.bind (x0_isSaying a1 s0) fun z3 =>
  if i32 z3.1 = 0 then
    some ((-1), z3.2)
  else
    Option.bind (x0_isAhead (a2 + 1) 1 61 z3.2) fun z5 =>
    if i32 z5.1 = 0 then
      some ((-1), z5.2)
    else
      Option.bind (x7_copy 99 36 z5.2) fun z7 =>
      gd (z7.1 = 99) <|
      bnd 0 fun x3_9 =>
      x0_later_L37
        (fun (x1_19 : Int) (s20 : XS) =>
          gd (ok 6 x1_19) <|
          some ((s20 103 (i32 x1_19)), s20))
        FU a1 a2 x3_9 z7.2
theorem wx0_later_L37 {l : Launch} {x0 : Nat} {D : XD} {cN sN : Nat} {res : Int × XS} {k56 : Int → XS → Option (Int × XS)} (hk56 : ∀ (x1_14 : Int) (s15 : XS), k56 x1_14 s15 = some res → GX l cX0_later "VerbAtDusk" 4 (some .int) "later" [] x0 D true 1 712 cN sN (0, res) s15 56 [(0, .ref (ad x0 0)), (1, J x1_14)] []) : ∀ (n : Nat) (x1_10 : Int) (x2_11 : Int) (x3_12 : Int) (s13 : XS), x0_later_L37 k56 n x1_10 x2_11 x3_12 s13 = some res → GX l cX0_later "VerbAtDusk" 4 (some .int) "later" [] x0 D true 1 712 cN sN (0, res) s13 37 [(0, .ref (ad x0 0)), (1, J x1_10), (2, J x2_11), (3, J x3_12)] [] := by
  intro n
  induction n with
  | zero =>
    intro x1_10 x2_11 x3_12 s13 h
    cases h
  | succ n ih =>
    intro x1_10 x2_11 x3_12 s13 h
    rw [x0_later_L37] at h
    refine gx_iload_n 37 3 dX0_later_37 rfl ?_
    refine gx_iload_n 38 2 dX0_later_38 rfl ?_
    refine gx_icmp_gt 39 56 dX0_later_39 (by decide) (fun c16 => ?_) (fun c16 => ?_)
    · replace h := if_t h c16
      refine gx_sub [0, 1] rfl ?_
      exact hk56 _ _ h
    · replace h := if_f h c16
      refine gx_aload_n 42 0 dX0_later_42 rfl ?_
      refine gx_get (t := 1) (k := 12) (v := .ref (ad x0 99)) 43 cw1 (by decide) (tgs (show stc 0 = (1, 0) by decide) (by decide)) q535 same_f (rf_ne (nes (show stc 99 = (8, 6) by decide) (by decide))) dX0_later_43 ?_
      obtain ⟨z17, ez17, h⟩ := opt_e h
      refine gx_callV (As := []) (rest := []) (st' := [J z17.1]) 46 0 cw8 (tgs (show stc 99 = (8, 6) by decide) (by decide)) (mx7_passes ez17 l) (lw_V q1572 q1573 q1574 q160 q1575) (by decide +kernel) (by decide) rfl rfl (Nat.le_of_ble_eq_true rfl) dX0_later_46 rfl ?_
      refine gx_pop 49 dX0_later_49 rfl ?_
      obtain ⟨x3_18, ex3_18, h⟩ := bnd_e h
      refine gx_iinc 50 3 [(3, J x3_18), (0, .ref (ad x0 0)), (1, J x1_10), (2, J x2_11)] dX0_later_50 rfl ex3_18 (by decide) rfl ?_
      refine gx_goto 53 37 dX0_later_53 (by decide) ?_
      refine gx_sub [1, 2, 3, 0] rfl ?_
      exact ih _ _ _ _ h
theorem mx0_later {x0 : Nat} {D : XD} {a1 : Int} {a2 : Int} {s0 : XS} {res : Int × XS} (h : x0_later a1 a2 s0 = some res) (l : Launch) : XMet0 l yX0_later cX0_later 4 (some .int) 712 true x0 D [.ref (ad x0 0), J a1, J a2] s0 1 res := by
  refine XMet0.ofn [(0, .ref (ad x0 0)), (1, J a1), (2, J a2)] "VerbAtDusk" "later" rfl rfl (plainFor_of_name (by decide)) (Nat.le_of_ble_eq_true rfl) rfl ?_
  unfold x0_later at h
  generalize nC s0 = cN
  generalize nS s0 = sN
  refine gx_aload_n 0 0 dX0_later_0 rfl ?_
  refine gx_iload_n 1 1 dX0_later_1 rfl ?_
  obtain ⟨z3, ez3, h⟩ := opt_e h
  refine gx_callV (As := [J a1]) (rest := []) (st' := [J z3.1]) 2 1 cw1 (tgs (show stc 0 = (1, 0) by decide) (by decide)) (mx0_isSaying ez3 l) (lw_V q1346 q1348 qs35 q147 q1349) (by decide +kernel) (by decide) rfl rfl (Nat.le_of_ble_eq_true rfl) dX0_later_2 rfl ?_
  refine gx_if_eq 5 21 dX0_later_5 (by decide) (fun c4 => ?_) (fun c4 => ?_)
  · replace h := if_t h c4
    refine gx_iconst 21 dX0_later_21 ?_
    exact gx_iret 22 dX0_later_22 (rt h)
  · replace h := if_f h c4
    refine gx_aload_n 8 0 dX0_later_8 rfl ?_
    refine gx_iload_n 9 2 dX0_later_9 rfl ?_
    refine gx_iconst 10 dX0_later_10 ?_
    refine gx_iadd 11 dX0_later_11 ?_
    refine gx_iconst 12 dX0_later_12 ?_
    refine gx_bipush 13 dX0_later_13 (by decide) ?_
    obtain ⟨z5, ez5, h⟩ := opt_e h
    refine gx_callV (As := [J (a2 + 1), J 1, J 61]) (rest := []) (st' := [J z5.1]) 15 3 cw1 (tgs (show stc 0 = (1, 0) by decide) (by decide)) (mx0_isAhead ez5 l) (lw_V q1568 q1570 qs45 q147 q1571) (by decide +kernel) (by decide) rfl rfl (Nat.le_of_ble_eq_true rfl) dX0_later_15 rfl ?_
    refine gx_if_ne 18 23 dX0_later_18 (by decide) (fun c6 => ?_) (fun c6 => ?_)
    · replace h := if_f h c6
      refine gx_aload_n 23 0 dX0_later_23 rfl ?_
      refine gx_get (t := 1) (k := 12) (v := .ref (ad x0 99)) 24 cw1 (by decide) (tgs (show stc 0 = (1, 0) by decide) (by decide)) q535 same_f (rf_ne (nes (show stc 99 = (8, 6) by decide) (by decide))) dX0_later_24 ?_
      refine gx_aload_n 27 0 dX0_later_27 rfl ?_
      refine gx_get (t := 1) (k := 11) (v := .ref (ad x0 36)) 28 cw1 (by decide) (tgs (show stc 0 = (1, 0) by decide) (by decide)) q534 same_f (rf_ne (nes (show stc 36 = (8, 6) by decide) (by decide))) dX0_later_28 ?_
      obtain ⟨z7, ez7, h⟩ := opt_e h
      refine gx_callV (As := [.ref (ad x0 36)]) (rest := []) (st' := [.ref (ad x0 z7.1)]) 31 1 cw8 (tgs (show stc 99 = (8, 6) by decide) (by decide)) (mx7_copy ez7 l) (lw_V q1560 q1561 q1562 q160 q1563) (by decide +kernel) (by decide) rfl rfl (Nat.le_of_ble_eq_true rfl) dX0_later_31 rfl ?_
      obtain ⟨g8, h⟩ := gd_e h
      rw [g8]
      refine gx_pop 34 dX0_later_34 rfl ?_
      refine gx_iconst 35 dX0_later_35 ?_
      obtain ⟨x3_9, ex3_9, h⟩ := bnd_e h
      refine gx_istore_n 36 [(3, J x3_9), (0, .ref (ad x0 0)), (1, J a1), (2, J a2)] dX0_later_36 (by decide) ex3_9 rfl ?_
      refine gx_sub [1, 2, 3, 0] rfl ?_
      refine wx0_later_L37 (fun x1_19 s20 h => ?_) FU _ _ _ _ h
      · refine gx_aload_n 56 0 dX0_later_56 rfl ?_
        refine gx_get (t := 1) (k := 12) (v := .ref (ad x0 99)) 57 cw1 (by decide) (tgs (show stc 0 = (1, 0) by decide) (by decide)) q535 same_f (rf_ne (nes (show stc 99 = (8, 6) by decide) (by decide))) dX0_later_57 ?_
        refine gx_getN (t := 8) (k := 6) (v := .ref (ad x0 103)) 60 cw8 (by decide) (tgs (show stc 99 = (8, 6) by decide) (by decide)) q488 same_f (rf_ne (nes (show stc 103 = (101, 6) by decide) (by decide))) dX0_later_60 ?_
        refine gx_iload_n 63 1 dX0_later_63 rfl ?_
        obtain ⟨g21, h⟩ := gd_e h
        refine gx_iald 64 (tgs (show stc 103 = (101, 6) by decide) (by decide)) (oks (show stc 103 = (101, 6) by decide) (by decide) g21) dX0_later_64 ?_
        exact gx_iret 65 dX0_later_65 (rt h)
    · replace h := if_t h c6
      refine gx_iconst 21 dX0_later_21 ?_
      exact gx_iret 22 dX0_later_22 (rt h)
/-! VerbAtDusk.tone -/
noncomputable def x0_tone_L35 (k54 : Int → XS → Option (Int × XS)) : Nat → Int → Int → Int → XS → Option (Int × XS)
  | 0, _, _, _, _ => none
  | n + 1, x1_10, x2_11, x3_12, s13 =>
    if i32 x2_11 ≤ i32 x3_12 then
      k54 x1_10 s13
    else
      Option.bind (x7_passes 99 s13) fun z17 =>
      bnd (x3_12 + 1) fun x3_18 =>
      x0_tone_L35 k54 n x1_10 x2_11 x3_18 z17.2
noncomputable def x0_tone (a1 : Int) (a2 : Int) (s0 : XS) : Option (Int × XS) :=
  Option.bind (x0_isSaying a1 s0) fun z3 =>
  if i32 z3.1 = 0 then
    some ((-1), z3.2)
  else
    Option.bind (x0_isAhead a2 0 60 z3.2) fun z5 =>
    if i32 z5.1 = 0 then
      some ((-1), z5.2)
    else
      Option.bind (x7_copy 99 36 z5.2) fun z7 =>
      gd (z7.1 = 99) <|
      bnd 0 fun x3_9 =>
      x0_tone_L35
        (fun (x1_19 : Int) (s20 : XS) =>
          gd (ok 6 x1_19) <|
          some ((s20 102 (i32 x1_19)), s20))
        FU a1 a2 x3_9 z7.2
theorem wx0_tone_L35 {l : Launch} {x0 : Nat} {D : XD} {cN sN : Nat} {res : Int × XS} {k54 : Int → XS → Option (Int × XS)} (hk54 : ∀ (x1_14 : Int) (s15 : XS), k54 x1_14 s15 = some res → GX l cX0_tone "VerbAtDusk" 4 (some .int) "tone" [] x0 D true 1 712 cN sN (0, res) s15 54 [(0, .ref (ad x0 0)), (1, J x1_14)] []) : ∀ (n : Nat) (x1_10 : Int) (x2_11 : Int) (x3_12 : Int) (s13 : XS), x0_tone_L35 k54 n x1_10 x2_11 x3_12 s13 = some res → GX l cX0_tone "VerbAtDusk" 4 (some .int) "tone" [] x0 D true 1 712 cN sN (0, res) s13 35 [(0, .ref (ad x0 0)), (1, J x1_10), (2, J x2_11), (3, J x3_12)] [] := by
  intro n
  induction n with
  | zero =>
    intro x1_10 x2_11 x3_12 s13 h
    cases h
  | succ n ih =>
    intro x1_10 x2_11 x3_12 s13 h
    rw [x0_tone_L35] at h
    refine gx_iload_n 35 3 dX0_tone_35 rfl ?_
    refine gx_iload_n 36 2 dX0_tone_36 rfl ?_
    refine gx_icmp_ge 37 54 dX0_tone_37 (by decide) (fun c16 => ?_) (fun c16 => ?_)
    · replace h := if_t h c16
      refine gx_sub [0, 1] rfl ?_
      exact hk54 _ _ h
    · replace h := if_f h c16
      refine gx_aload_n 40 0 dX0_tone_40 rfl ?_
      refine gx_get (t := 1) (k := 12) (v := .ref (ad x0 99)) 41 cw1 (by decide) (tgs (show stc 0 = (1, 0) by decide) (by decide)) q535 same_f (rf_ne (nes (show stc 99 = (8, 6) by decide) (by decide))) dX0_tone_41 ?_
      obtain ⟨z17, ez17, h⟩ := opt_e h
      refine gx_callV (As := []) (rest := []) (st' := [J z17.1]) 44 0 cw8 (tgs (show stc 99 = (8, 6) by decide) (by decide)) (mx7_passes ez17 l) (lw_V q1572 q1573 q1574 q160 q1575) (by decide +kernel) (by decide) rfl rfl (Nat.le_of_ble_eq_true rfl) dX0_tone_44 rfl ?_
      refine gx_pop 47 dX0_tone_47 rfl ?_
      obtain ⟨x3_18, ex3_18, h⟩ := bnd_e h
      refine gx_iinc 48 3 [(3, J x3_18), (0, .ref (ad x0 0)), (1, J x1_10), (2, J x2_11)] dX0_tone_48 rfl ex3_18 (by decide) rfl ?_
      refine gx_goto 51 35 dX0_tone_51 (by decide) ?_
      refine gx_sub [1, 2, 3, 0] rfl ?_
      exact ih _ _ _ _ h
theorem mx0_tone {x0 : Nat} {D : XD} {a1 : Int} {a2 : Int} {s0 : XS} {res : Int × XS} (h : x0_tone a1 a2 s0 = some res) (l : Launch) : XMet0 l yX0_tone cX0_tone 4 (some .int) 712 true x0 D [.ref (ad x0 0), J a1, J a2] s0 1 res := by
  refine XMet0.ofn [(0, .ref (ad x0 0)), (1, J a1), (2, J a2)] "VerbAtDusk" "tone" rfl rfl (plainFor_of_name (by decide)) (Nat.le_of_ble_eq_true rfl) rfl ?_
  unfold x0_tone at h
  generalize nC s0 = cN
  generalize nS s0 = sN
  refine gx_aload_n 0 0 dX0_tone_0 rfl ?_
  refine gx_iload_n 1 1 dX0_tone_1 rfl ?_
  obtain ⟨z3, ez3, h⟩ := opt_e h
  refine gx_callV (As := [J a1]) (rest := []) (st' := [J z3.1]) 2 1 cw1 (tgs (show stc 0 = (1, 0) by decide) (by decide)) (mx0_isSaying ez3 l) (lw_V q1346 q1348 qs35 q147 q1349) (by decide +kernel) (by decide) rfl rfl (Nat.le_of_ble_eq_true rfl) dX0_tone_2 rfl ?_
  refine gx_if_eq 5 19 dX0_tone_5 (by decide) (fun c4 => ?_) (fun c4 => ?_)
  · replace h := if_t h c4
    refine gx_iconst 19 dX0_tone_19 ?_
    exact gx_iret 20 dX0_tone_20 (rt h)
  · replace h := if_f h c4
    refine gx_aload_n 8 0 dX0_tone_8 rfl ?_
    refine gx_iload_n 9 2 dX0_tone_9 rfl ?_
    refine gx_iconst 10 dX0_tone_10 ?_
    refine gx_bipush 11 dX0_tone_11 (by decide) ?_
    obtain ⟨z5, ez5, h⟩ := opt_e h
    refine gx_callV (As := [J a2, J 0, J 60]) (rest := []) (st' := [J z5.1]) 13 3 cw1 (tgs (show stc 0 = (1, 0) by decide) (by decide)) (mx0_isAhead ez5 l) (lw_V q1568 q1570 qs45 q147 q1571) (by decide +kernel) (by decide) rfl rfl (Nat.le_of_ble_eq_true rfl) dX0_tone_13 rfl ?_
    refine gx_if_ne 16 21 dX0_tone_16 (by decide) (fun c6 => ?_) (fun c6 => ?_)
    · replace h := if_f h c6
      refine gx_aload_n 21 0 dX0_tone_21 rfl ?_
      refine gx_get (t := 1) (k := 12) (v := .ref (ad x0 99)) 22 cw1 (by decide) (tgs (show stc 0 = (1, 0) by decide) (by decide)) q535 same_f (rf_ne (nes (show stc 99 = (8, 6) by decide) (by decide))) dX0_tone_22 ?_
      refine gx_aload_n 25 0 dX0_tone_25 rfl ?_
      refine gx_get (t := 1) (k := 11) (v := .ref (ad x0 36)) 26 cw1 (by decide) (tgs (show stc 0 = (1, 0) by decide) (by decide)) q534 same_f (rf_ne (nes (show stc 36 = (8, 6) by decide) (by decide))) dX0_tone_26 ?_
      obtain ⟨z7, ez7, h⟩ := opt_e h
      refine gx_callV (As := [.ref (ad x0 36)]) (rest := []) (st' := [.ref (ad x0 z7.1)]) 29 1 cw8 (tgs (show stc 99 = (8, 6) by decide) (by decide)) (mx7_copy ez7 l) (lw_V q1560 q1561 q1562 q160 q1563) (by decide +kernel) (by decide) rfl rfl (Nat.le_of_ble_eq_true rfl) dX0_tone_29 rfl ?_
      obtain ⟨g8, h⟩ := gd_e h
      rw [g8]
      refine gx_pop 32 dX0_tone_32 rfl ?_
      refine gx_iconst 33 dX0_tone_33 ?_
      obtain ⟨x3_9, ex3_9, h⟩ := bnd_e h
      refine gx_istore_n 34 [(3, J x3_9), (0, .ref (ad x0 0)), (1, J a1), (2, J a2)] dX0_tone_34 (by decide) ex3_9 rfl ?_
      refine gx_sub [1, 2, 3, 0] rfl ?_
      refine wx0_tone_L35 (fun x1_19 s20 h => ?_) FU _ _ _ _ h
      · refine gx_aload_n 54 0 dX0_tone_54 rfl ?_
        refine gx_get (t := 1) (k := 12) (v := .ref (ad x0 99)) 55 cw1 (by decide) (tgs (show stc 0 = (1, 0) by decide) (by decide)) q535 same_f (rf_ne (nes (show stc 99 = (8, 6) by decide) (by decide))) dX0_tone_55 ?_
        refine gx_getN (t := 8) (k := 5) (v := .ref (ad x0 102)) 58 cw8 (by decide) (tgs (show stc 99 = (8, 6) by decide) (by decide)) q486 same_f (rf_ne (nes (show stc 102 = (101, 6) by decide) (by decide))) dX0_tone_58 ?_
        refine gx_iload_n 61 1 dX0_tone_61 rfl ?_
        obtain ⟨g21, h⟩ := gd_e h
        refine gx_iald 62 (tgs (show stc 102 = (101, 6) by decide) (by decide)) (oks (show stc 102 = (101, 6) by decide) (by decide) g21) dX0_tone_62 ?_
        exact gx_iret 63 dX0_tone_63 (rt h)
    · replace h := if_t h c6
      refine gx_iconst 19 dX0_tone_19 ?_
      exact gx_iret 20 dX0_tone_20 (rt h)
/-! VerbAtDusk.mute -/
noncomputable def x0_mute_L14 (k45 : XS → Option (Int × XS)) (k37 : Int → XS → Option (Int × XS)) : Nat → Int → XS → Option (Int × XS)
  | 0, _, _ => none
  | n + 1, x1_4, s5 =>
    Option.bind (x0_isAhead (x1_4 + 1) 1 61 s5) fun z9 =>
    if i32 z9.1 = 0 then
      k45 z9.2
    else
      Option.bind (x7_passes 99 z9.2) fun z11 =>
      if i32 z11.1 = 0 then
        k37 x1_4 z11.2
      else
        bnd (x1_4 + 1) fun x1_13 =>
        x0_mute_L14 k45 k37 n x1_13 z11.2
noncomputable def x0_mute (s0 : XS) : Option (Int × XS) :=
  Option.bind (x7_copy 99 36 s0) fun z1 =>
  gd (z1.1 = 99) <|
  bnd 0 fun x1_3 =>
  x0_mute_L14
    (fun (s14 : XS) =>
      some ((-1), s14))
    (fun (x1_15 : Int) (s16 : XS) =>
      some (x1_15, s16))
    FU x1_3 z1.2
theorem wx0_mute_L14 {l : Launch} {x0 : Nat} {D : XD} {cN sN : Nat} {res : Int × XS} {k45 : XS → Option (Int × XS)} {k37 : Int → XS → Option (Int × XS)} (hk45 : ∀ (s6 : XS), k45 s6 = some res → GX l cX0_mute "VerbAtDusk" 2 (some .int) "mute" [] x0 D true 1 712 cN sN (0, res) s6 45 [] []) (hk37 : ∀ (x1_7 : Int) (s8 : XS), k37 x1_7 s8 = some res → GX l cX0_mute "VerbAtDusk" 2 (some .int) "mute" [] x0 D true 1 712 cN sN (0, res) s8 37 [(1, J x1_7)] []) : ∀ (n : Nat) (x1_4 : Int) (s5 : XS), x0_mute_L14 k45 k37 n x1_4 s5 = some res → GX l cX0_mute "VerbAtDusk" 2 (some .int) "mute" [] x0 D true 1 712 cN sN (0, res) s5 14 [(0, .ref (ad x0 0)), (1, J x1_4)] [] := by
  intro n
  induction n with
  | zero =>
    intro x1_4 s5 h
    cases h
  | succ n ih =>
    intro x1_4 s5 h
    rw [x0_mute_L14] at h
    refine gx_aload_n 14 0 dX0_mute_14 rfl ?_
    refine gx_iload_n 15 1 dX0_mute_15 rfl ?_
    refine gx_iconst 16 dX0_mute_16 ?_
    refine gx_iadd 17 dX0_mute_17 ?_
    refine gx_iconst 18 dX0_mute_18 ?_
    refine gx_bipush 19 dX0_mute_19 (by decide) ?_
    obtain ⟨z9, ez9, h⟩ := opt_e h
    refine gx_callV (As := [J (x1_4 + 1), J 1, J 61]) (rest := []) (st' := [J z9.1]) 21 3 cw1 (tgs (show stc 0 = (1, 0) by decide) (by decide)) (mx0_isAhead ez9 l) (lw_V q1568 q1570 qs45 q147 q1571) (by decide +kernel) (by decide) rfl rfl (Nat.le_of_ble_eq_true rfl) dX0_mute_21 rfl ?_
    refine gx_if_eq 24 45 dX0_mute_24 (by decide) (fun c10 => ?_) (fun c10 => ?_)
    · replace h := if_t h c10
      refine gx_sub [] rfl ?_
      exact hk45 _ h
    · replace h := if_f h c10
      refine gx_aload_n 27 0 dX0_mute_27 rfl ?_
      refine gx_get (t := 1) (k := 12) (v := .ref (ad x0 99)) 28 cw1 (by decide) (tgs (show stc 0 = (1, 0) by decide) (by decide)) q535 same_f (rf_ne (nes (show stc 99 = (8, 6) by decide) (by decide))) dX0_mute_28 ?_
      obtain ⟨z11, ez11, h⟩ := opt_e h
      refine gx_callV (As := []) (rest := []) (st' := [J z11.1]) 31 0 cw8 (tgs (show stc 99 = (8, 6) by decide) (by decide)) (mx7_passes ez11 l) (lw_V q1572 q1573 q1574 q160 q1575) (by decide +kernel) (by decide) rfl rfl (Nat.le_of_ble_eq_true rfl) dX0_mute_31 rfl ?_
      refine gx_if_ne 34 39 dX0_mute_34 (by decide) (fun c12 => ?_) (fun c12 => ?_)
      · replace h := if_f h c12
        obtain ⟨x1_13, ex1_13, h⟩ := bnd_e h
        refine gx_iinc 39 1 [(1, J x1_13), (0, .ref (ad x0 0))] dX0_mute_39 rfl ex1_13 (by decide) rfl ?_
        refine gx_goto 42 14 dX0_mute_42 (by decide) ?_
        refine gx_sub [1, 0] rfl ?_
        exact ih _ _ h
      · replace h := if_t h c12
        refine gx_sub [1] rfl ?_
        exact hk37 _ _ h
theorem mx0_mute {x0 : Nat} {D : XD} {s0 : XS} {res : Int × XS} (h : x0_mute s0 = some res) (l : Launch) : XMet0 l yX0_mute cX0_mute 2 (some .int) 712 true x0 D [.ref (ad x0 0)] s0 1 res := by
  refine XMet0.ofn [(0, .ref (ad x0 0))] "VerbAtDusk" "mute" rfl rfl (plainFor_of_name (by decide)) (Nat.le_of_ble_eq_true rfl) rfl ?_
  unfold x0_mute at h
  generalize nC s0 = cN
  generalize nS s0 = sN
  refine gx_aload_n 0 0 dX0_mute_0 rfl ?_
  refine gx_get (t := 1) (k := 12) (v := .ref (ad x0 99)) 1 cw1 (by decide) (tgs (show stc 0 = (1, 0) by decide) (by decide)) q535 same_f (rf_ne (nes (show stc 99 = (8, 6) by decide) (by decide))) dX0_mute_1 ?_
  refine gx_aload_n 4 0 dX0_mute_4 rfl ?_
  refine gx_get (t := 1) (k := 11) (v := .ref (ad x0 36)) 5 cw1 (by decide) (tgs (show stc 0 = (1, 0) by decide) (by decide)) q534 same_f (rf_ne (nes (show stc 36 = (8, 6) by decide) (by decide))) dX0_mute_5 ?_
  obtain ⟨z1, ez1, h⟩ := opt_e h
  refine gx_callV (As := [.ref (ad x0 36)]) (rest := []) (st' := [.ref (ad x0 z1.1)]) 8 1 cw8 (tgs (show stc 99 = (8, 6) by decide) (by decide)) (mx7_copy ez1 l) (lw_V q1560 q1561 q1562 q160 q1563) (by decide +kernel) (by decide) rfl rfl (Nat.le_of_ble_eq_true rfl) dX0_mute_8 rfl ?_
  obtain ⟨g2, h⟩ := gd_e h
  rw [g2]
  refine gx_pop 11 dX0_mute_11 rfl ?_
  refine gx_iconst 12 dX0_mute_12 ?_
  obtain ⟨x1_3, ex1_3, h⟩ := bnd_e h
  refine gx_istore_n 13 [(1, J x1_3), (0, .ref (ad x0 0))] dX0_mute_13 (by decide) ex1_3 rfl ?_
  refine gx_sub [1, 0] rfl ?_
  refine wx0_mute_L14 (fun s14 h => ?_) (fun x1_15 s16 h => ?_) FU _ _ h
  · refine gx_iconst 45 dX0_mute_45 ?_
    exact gx_iret 46 dX0_mute_46 (rt h)
  · refine gx_iload_n 37 0 dX0_mute_37 rfl ?_
    exact gx_iret 38 dX0_mute_38 (rt h)
/-! VerbAtDusk.see -/
noncomputable def x0_see_L36 (k108 : Int → Int → XS → Option (Int × XS)) : Nat → Int → Int → Int → XS → Option (Int × XS)
  | 0, _, _, _, _ => none
  | n + 1, x1_8, x2_9, x3_10, s11 =>
    if i32 x1_8 ≤ i32 x3_10 then
      k108 x1_8 x2_9 s11
    else
      if i32 x2_9 = 0 then
        k108 x1_8 x2_9 s11
      else
        Option.bind (x0_byteAt x3_10 s11) fun z17 =>
        bnd (fun (x1_18 : Int) (x3_19 : Int) (w20 : Int) (s21 : XS) =>
            bnd (x3_19 + 3) fun x3_22 =>
            x0_see_L36 k108 n x1_18 w20 x3_22 s21) fun j23 =>
        bnd (fun (x1_24 : Int) (x3_25 : Int) (s26 : XS) =>
            j23 x1_24 x3_25 0 s26) fun j27 =>
        if i32 20 < i32 z17.1 then
          j27 x1_8 x3_10 z17.2
        else
          Option.bind (x0_byteAt (x3_10 + 1) z17.2) fun z29 =>
          Option.bind (x0_isSaying z29.1 z29.2) fun z30 =>
          if i32 z30.1 = 0 then
            j27 x1_8 x3_10 z30.2
          else
            Option.bind (x0_byteAt (x3_10 + 2) z30.2) fun z32 =>
            Option.bind (x0_isVerb z32.1 z32.2) fun z33 =>
            bnd (fun (x1_34 : Int) (x3_35 : Int) (s36 : XS) =>
                j23 x1_34 x3_35 1 s36) fun j37 =>
            if i32 z33.1 = 0 then
              Option.bind (x0_byteAt (x3_10 + 2) z33.2) fun z39 =>
              if i32 z39.1 = i32 255 then
                j37 x1_8 x3_10 z39.2
              else
                j27 x1_8 x3_10 z39.2
            else
              j37 x1_8 x3_10 z33.2
noncomputable def x0_see_L127 (k203 : XS → Option (Int × XS)) : Nat → Int → XS → Option (Int × XS)
  | 0, _, _ => none
  | n + 1, x3_47, s48 =>
    if i32 (s48 0 16) ≤ i32 x3_47 then
      k203 s48
    else
      Option.bind (x0_byteAt (3 * x3_47) s48) fun z51 =>
      gd (ok 16 x3_47) <|
      bnd (ux z51.2 162 (i32 x3_47) z51.1) fun s53 =>
      Option.bind (x0_byteAt ((3 * x3_47) + 1) s53) fun z54 =>
      gd (ok 16 x3_47) <|
      bnd (ux z54.2 163 (i32 x3_47) z54.1) fun s56 =>
      Option.bind (x0_byteAt ((3 * x3_47) + 2) s56) fun z57 =>
      bnd (fun (x3_58 : Int) (w59 : Int) (w60 : Int) (s61 : XS) =>
          gd (ok 16 w60) <|
          bnd (ux s61 164 (i32 w60) w59) fun s63 =>
          bnd (x3_58 + 1) fun x3_64 =>
          x0_see_L127 k203 n x3_64 s63) fun j65 =>
      if i32 z57.1 = i32 255 then
        j65 x3_47 (-1) x3_47 z57.2
      else
        Option.bind (x0_byteAt ((3 * x3_47) + 2) z57.2) fun z67 =>
        j65 x3_47 z67.1 x3_47 z67.2
noncomputable def x0_see (s0 : XS) : Option (Int × XS) :=
  Option.bind (x0_taken s0) fun z1 =>
  bnd z1.1 fun x1_2 =>
  Option.bind (x0_isCountry z1.2) fun z3 =>
  bnd (fun (x1_4 : Int) (w5 : Int) (s6 : XS) =>
      bnd 0 fun x3_7 =>
      x0_see_L36
        (fun (x1_41 : Int) (x2_42 : Int) (s43 : XS) =>
          if i32 x2_42 = 0 then
            Option.bind (x0_refuses 1 s43) fun z69 =>
            some (z69.1, z69.2)
          else
            bnd (ux s43 0 16 (idiv x1_41 3)) fun s45 =>
            bnd 0 fun x3_46 =>
            x0_see_L127
              (fun (s68 : XS) =>
                some ((s68 0 16), s68))
              FU x3_46 s45)
        FU x1_4 w5 x3_7 s6) fun j70 =>
  bnd (fun (x1_71 : Int) (s72 : XS) =>
      j70 x1_71 0 s72) fun j73 =>
  if i32 z3.1 = 0 then
    j73 x1_2 z3.2
  else
    if i32 x1_2 ≤ 0 then
      j73 x1_2 z3.2
    else
      if i32 (irem x1_2 3) = 0 then
        if i32 48 < i32 x1_2 then
          j73 x1_2 z3.2
        else
          j70 x1_2 1 z3.2
      else
        j73 x1_2 z3.2
theorem wx0_see_L36 {l : Launch} {x0 : Nat} {D : XD} {cN sN : Nat} {res : Int × XS} {k108 : Int → Int → XS → Option (Int × XS)} (hk108 : ∀ (x1_12 : Int) (x2_13 : Int) (s14 : XS), k108 x1_12 x2_13 s14 = some res → GX l cX0_see "VerbAtDusk" 4 (some .int) "see" [] x0 D true 1 4 cN sN (0, res) s14 108 [(0, .ref (ad x0 0)), (1, J x1_12), (2, J x2_13)] []) : ∀ (n : Nat) (x1_8 : Int) (x2_9 : Int) (x3_10 : Int) (s11 : XS), x0_see_L36 k108 n x1_8 x2_9 x3_10 s11 = some res → GX l cX0_see "VerbAtDusk" 4 (some .int) "see" [] x0 D true 1 4 cN sN (0, res) s11 36 [(0, .ref (ad x0 0)), (1, J x1_8), (2, J x2_9), (3, J x3_10)] [] := by
  intro n
  induction n with
  | zero =>
    intro x1_8 x2_9 x3_10 s11 h
    cases h
  | succ n ih =>
    intro x1_8 x2_9 x3_10 s11 h
    rw [x0_see_L36] at h
    refine gx_iload_n 36 3 dX0_see_36 rfl ?_
    refine gx_iload_n 37 1 dX0_see_37 rfl ?_
    refine gx_icmp_ge 38 108 dX0_see_38 (by decide) (fun c15 => ?_) (fun c15 => ?_)
    · replace h := if_t h c15
      refine gx_sub [0, 1, 2] rfl ?_
      exact hk108 _ _ _ h
    · replace h := if_f h c15
      refine gx_iload_n 41 2 dX0_see_41 rfl ?_
      refine gx_if_eq 42 108 dX0_see_42 (by decide) (fun c16 => ?_) (fun c16 => ?_)
      · replace h := if_t h c16
        refine gx_sub [0, 1, 2] rfl ?_
        exact hk108 _ _ _ h
      · replace h := if_f h c16
        refine gx_aload_n 45 0 dX0_see_45 rfl ?_
        refine gx_iload_n 46 3 dX0_see_46 rfl ?_
        obtain ⟨z17, ez17, h⟩ := opt_e h
        refine gx_callV (As := [J x3_10]) (rest := []) (st' := [J z17.1]) 47 1 cw1 (tgs (show stc 0 = (1, 0) by decide) (by decide)) (mx0_byteAt ez17 l) (lw_V q1604 q1606 qs48 q147 q1607) (by decide +kernel) (by decide) rfl rfl (Nat.le_of_ble_eq_true rfl) dX0_see_47 rfl ?_
        refine gx_bipush 50 dX0_see_50 (by decide) ?_
        obtain ⟨j23, ej23, h⟩ := bnd_e h
        have hj23 : ∀ (x1_18 : Int) (x3_19 : Int) (w20 : Int) (s21 : XS), j23 x1_18 x3_19 w20 s21 = some res → GX l cX0_see "VerbAtDusk" 4 (some .int) "see" [] x0 D true 1 4 cN sN (0, res) s21 101 [(0, .ref (ad x0 0)), (1, J x1_18), (3, J x3_19)] [J w20] := by
          clear h
          intro x1_18 x3_19 w20 s21 h
          subst ej23
          refine gx_istore_n 101 [(2, J w20), (0, .ref (ad x0 0)), (1, J x1_18), (3, J x3_19)] dX0_see_101 (by decide) rfl rfl ?_
          obtain ⟨x3_22, ex3_22, h⟩ := bnd_e h
          refine gx_iinc 102 3 [(3, J x3_22), (2, J w20), (0, .ref (ad x0 0)), (1, J x1_18)] dX0_see_102 rfl ex3_22 (by decide) rfl ?_
          refine gx_goto 105 36 dX0_see_105 (by decide) ?_
          refine gx_sub [2, 3, 1, 0] rfl ?_
          exact ih _ _ _ _ h
        obtain ⟨j27, ej27, h⟩ := bnd_e h
        have hj27 : ∀ (x1_24 : Int) (x3_25 : Int) (s26 : XS), j27 x1_24 x3_25 s26 = some res → GX l cX0_see "VerbAtDusk" 4 (some .int) "see" [] x0 D true 1 4 cN sN (0, res) s26 100 [(0, .ref (ad x0 0)), (1, J x1_24), (3, J x3_25)] [] := by
          clear h
          intro x1_24 x3_25 s26 h
          subst ej27
          refine gx_iconst 100 dX0_see_100 ?_
          refine gx_sub [0, 1, 2] rfl ?_
          exact hj23 _ _ _ _ h
        refine gx_icmp_gt 52 100 dX0_see_52 (by decide) (fun c28 => ?_) (fun c28 => ?_)
        · replace h := if_t h c28
          refine gx_sub [0, 1, 3] rfl ?_
          exact hj27 _ _ _ h
        · replace h := if_f h c28
          refine gx_aload_n 55 0 dX0_see_55 rfl ?_
          refine gx_aload_n 56 0 dX0_see_56 rfl ?_
          refine gx_iload_n 57 3 dX0_see_57 rfl ?_
          refine gx_iconst 58 dX0_see_58 ?_
          refine gx_iadd 59 dX0_see_59 ?_
          obtain ⟨z29, ez29, h⟩ := opt_e h
          refine gx_callV (As := [J (x3_10 + 1)]) (rest := [.ref (ad x0 0)]) (st' := [J z29.1, .ref (ad x0 0)]) 60 1 cw1 (tgs (show stc 0 = (1, 0) by decide) (by decide)) (mx0_byteAt ez29 l) (lw_V q1604 q1606 qs48 q147 q1607) (by decide +kernel) (by decide) rfl rfl (Nat.le_of_ble_eq_true rfl) dX0_see_60 rfl ?_
          obtain ⟨z30, ez30, h⟩ := opt_e h
          refine gx_callV (As := [J z29.1]) (rest := []) (st' := [J z30.1]) 63 1 cw1 (tgs (show stc 0 = (1, 0) by decide) (by decide)) (mx0_isSaying ez30 l) (lw_V q1346 q1348 qs35 q147 q1349) (by decide +kernel) (by decide) rfl rfl (Nat.le_of_ble_eq_true rfl) dX0_see_63 rfl ?_
          refine gx_if_eq 66 100 dX0_see_66 (by decide) (fun c31 => ?_) (fun c31 => ?_)
          · replace h := if_t h c31
            refine gx_sub [0, 1, 3] rfl ?_
            exact hj27 _ _ _ h
          · replace h := if_f h c31
            refine gx_aload_n 69 0 dX0_see_69 rfl ?_
            refine gx_aload_n 70 0 dX0_see_70 rfl ?_
            refine gx_iload_n 71 3 dX0_see_71 rfl ?_
            refine gx_iconst 72 dX0_see_72 ?_
            refine gx_iadd 73 dX0_see_73 ?_
            obtain ⟨z32, ez32, h⟩ := opt_e h
            refine gx_callV (As := [J (x3_10 + 2)]) (rest := [.ref (ad x0 0)]) (st' := [J z32.1, .ref (ad x0 0)]) 74 1 cw1 (tgs (show stc 0 = (1, 0) by decide) (by decide)) (mx0_byteAt ez32 l) (lw_V q1604 q1606 qs48 q147 q1607) (by decide +kernel) (by decide) rfl rfl (Nat.le_of_ble_eq_true rfl) dX0_see_74 rfl ?_
            obtain ⟨z33, ez33, h⟩ := opt_e h
            refine gx_callV (As := [J z32.1]) (rest := []) (st' := [J z33.1]) 77 1 cw1 (tgs (show stc 0 = (1, 0) by decide) (by decide)) (mx0_isVerb ez33 l) (lw_V q1493 q1495 qs41 q147 q1496) (by decide +kernel) (by decide) rfl rfl (Nat.le_of_ble_eq_true rfl) dX0_see_77 rfl ?_
            obtain ⟨j37, ej37, h⟩ := bnd_e h
            have hj37 : ∀ (x1_34 : Int) (x3_35 : Int) (s36 : XS), j37 x1_34 x3_35 s36 = some res → GX l cX0_see "VerbAtDusk" 4 (some .int) "see" [] x0 D true 1 4 cN sN (0, res) s36 96 [(0, .ref (ad x0 0)), (1, J x1_34), (3, J x3_35)] [] := by
              clear h
              intro x1_34 x3_35 s36 h
              subst ej37
              refine gx_iconst 96 dX0_see_96 ?_
              refine gx_goto 97 101 dX0_see_97 (by decide) ?_
              refine gx_sub [0, 1, 2] rfl ?_
              exact hj23 _ _ _ _ h
            refine gx_if_ne 80 96 dX0_see_80 (by decide) (fun c38 => ?_) (fun c38 => ?_)
            · replace h := if_f h c38
              refine gx_sub [0, 1, 3] rfl ?_
              exact hj37 _ _ _ h
            · replace h := if_t h c38
              refine gx_aload_n 83 0 dX0_see_83 rfl ?_
              refine gx_iload_n 84 3 dX0_see_84 rfl ?_
              refine gx_iconst 85 dX0_see_85 ?_
              refine gx_iadd 86 dX0_see_86 ?_
              obtain ⟨z39, ez39, h⟩ := opt_e h
              refine gx_callV (As := [J (x3_10 + 2)]) (rest := []) (st' := [J z39.1]) 87 1 cw1 (tgs (show stc 0 = (1, 0) by decide) (by decide)) (mx0_byteAt ez39 l) (lw_V q1604 q1606 qs48 q147 q1607) (by decide +kernel) (by decide) rfl rfl (Nat.le_of_ble_eq_true rfl) dX0_see_87 rfl ?_
              refine gx_sipush 90 dX0_see_90 (by decide) ?_
              refine gx_icmp_ne 93 100 dX0_see_93 (by decide) (fun c40 => ?_) (fun c40 => ?_)
              · replace h := if_f h c40
                refine gx_sub [0, 1, 3] rfl ?_
                exact hj27 _ _ _ h
              · replace h := if_t h c40
                refine gx_sub [0, 1, 3] rfl ?_
                exact hj37 _ _ _ h
theorem wx0_see_L127 {l : Launch} {x0 : Nat} {D : XD} {cN sN : Nat} {res : Int × XS} {k203 : XS → Option (Int × XS)} (hk203 : ∀ (s49 : XS), k203 s49 = some res → GX l cX0_see "VerbAtDusk" 4 (some .int) "see" [] x0 D true 1 4 cN sN (0, res) s49 203 [(0, .ref (ad x0 0))] []) : ∀ (n : Nat) (x3_47 : Int) (s48 : XS), x0_see_L127 k203 n x3_47 s48 = some res → GX l cX0_see "VerbAtDusk" 4 (some .int) "see" [] x0 D true 1 4 cN sN (0, res) s48 127 [(0, .ref (ad x0 0)), (3, J x3_47)] [] := by
  intro n
  induction n with
  | zero =>
    intro x3_47 s48 h
    cases h
  | succ n ih =>
    intro x3_47 s48 h
    rw [x0_see_L127] at h
    refine gx_iload_n 127 1 dX0_see_127 rfl ?_
    refine gx_aload_n 128 0 dX0_see_128 rfl ?_
    refine gx_get (t := 1) (k := 16) (v := J (s48 0 16)) 129 cw1 (by decide) (tgs (show stc 0 = (1, 0) by decide) (by decide)) q539 same_f rfl dX0_see_129 ?_
    refine gx_icmp_ge 132 203 dX0_see_132 (by decide) (fun c50 => ?_) (fun c50 => ?_)
    · replace h := if_t h c50
      refine gx_sub [0] rfl ?_
      exact hk203 _ h
    · replace h := if_f h c50
      refine gx_aload_n 135 0 dX0_see_135 rfl ?_
      refine gx_get (t := 1) (k := 13) (v := .ref (ad x0 162)) 136 cw1 (by decide) (tgs (show stc 0 = (1, 0) by decide) (by decide)) q536 same_f (rf_ne (nes (show stc 162 = (101, 16) by decide) (by decide))) dX0_see_136 ?_
      refine gx_iload_n 139 1 dX0_see_139 rfl ?_
      refine gx_aload_n 140 0 dX0_see_140 rfl ?_
      refine gx_iconst 141 dX0_see_141 ?_
      refine gx_iload_n 142 1 dX0_see_142 rfl ?_
      refine gx_imul 143 dX0_see_143 ?_
      obtain ⟨z51, ez51, h⟩ := opt_e h
      refine gx_callV (As := [J (3 * x3_47)]) (rest := [J x3_47, .ref (ad x0 162)]) (st' := [J z51.1, J x3_47, .ref (ad x0 162)]) 144 1 cw1 (tgs (show stc 0 = (1, 0) by decide) (by decide)) (mx0_byteAt ez51 l) (lw_V q1604 q1606 qs48 q147 q1607) (by decide +kernel) (by decide) rfl rfl (Nat.le_of_ble_eq_true rfl) dX0_see_144 rfl ?_
      obtain ⟨g52, h⟩ := gd_e h
      obtain ⟨s53, es53, h⟩ := bnd_e h
      refine gx_iast 147 (tgs (show stc 162 = (101, 16) by decide) (by decide)) (st0 (show stc 162 = (101, 16) by decide) (by decide)) (stm (show stc 162 = (101, 16) by decide) (by decide)) (oks (show stc 162 = (101, 16) by decide) (by decide) g52) es53 dX0_see_147 ?_
      refine gx_aload_n 148 0 dX0_see_148 rfl ?_
      refine gx_get (t := 1) (k := 14) (v := .ref (ad x0 163)) 149 cw1 (by decide) (tgs (show stc 0 = (1, 0) by decide) (by decide)) q537 same_f (rf_ne (nes (show stc 163 = (101, 16) by decide) (by decide))) dX0_see_149 ?_
      refine gx_iload_n 152 1 dX0_see_152 rfl ?_
      refine gx_aload_n 153 0 dX0_see_153 rfl ?_
      refine gx_iconst 154 dX0_see_154 ?_
      refine gx_iload_n 155 1 dX0_see_155 rfl ?_
      refine gx_imul 156 dX0_see_156 ?_
      refine gx_iconst 157 dX0_see_157 ?_
      refine gx_iadd 158 dX0_see_158 ?_
      obtain ⟨z54, ez54, h⟩ := opt_e h
      refine gx_callV (As := [J ((3 * x3_47) + 1)]) (rest := [J x3_47, .ref (ad x0 163)]) (st' := [J z54.1, J x3_47, .ref (ad x0 163)]) 159 1 cw1 (tgs (show stc 0 = (1, 0) by decide) (by decide)) (mx0_byteAt ez54 l) (lw_V q1604 q1606 qs48 q147 q1607) (by decide +kernel) (by decide) rfl rfl (Nat.le_of_ble_eq_true rfl) dX0_see_159 rfl ?_
      obtain ⟨g55, h⟩ := gd_e h
      obtain ⟨s56, es56, h⟩ := bnd_e h
      refine gx_iast 162 (tgs (show stc 163 = (101, 16) by decide) (by decide)) (st0 (show stc 163 = (101, 16) by decide) (by decide)) (stm (show stc 163 = (101, 16) by decide) (by decide)) (oks (show stc 163 = (101, 16) by decide) (by decide) g55) es56 dX0_see_162 ?_
      refine gx_aload_n 163 0 dX0_see_163 rfl ?_
      refine gx_get (t := 1) (k := 15) (v := .ref (ad x0 164)) 164 cw1 (by decide) (tgs (show stc 0 = (1, 0) by decide) (by decide)) q538 same_f (rf_ne (nes (show stc 164 = (101, 16) by decide) (by decide))) dX0_see_164 ?_
      refine gx_iload_n 167 1 dX0_see_167 rfl ?_
      refine gx_aload_n 168 0 dX0_see_168 rfl ?_
      refine gx_iconst 169 dX0_see_169 ?_
      refine gx_iload_n 170 1 dX0_see_170 rfl ?_
      refine gx_imul 171 dX0_see_171 ?_
      refine gx_iconst 172 dX0_see_172 ?_
      refine gx_iadd 173 dX0_see_173 ?_
      obtain ⟨z57, ez57, h⟩ := opt_e h
      refine gx_callV (As := [J ((3 * x3_47) + 2)]) (rest := [J x3_47, .ref (ad x0 164)]) (st' := [J z57.1, J x3_47, .ref (ad x0 164)]) 174 1 cw1 (tgs (show stc 0 = (1, 0) by decide) (by decide)) (mx0_byteAt ez57 l) (lw_V q1604 q1606 qs48 q147 q1607) (by decide +kernel) (by decide) rfl rfl (Nat.le_of_ble_eq_true rfl) dX0_see_174 rfl ?_
      refine gx_sipush 177 dX0_see_177 (by decide) ?_
      obtain ⟨j65, ej65, h⟩ := bnd_e h
      have hj65 : ∀ (x3_58 : Int) (w59 : Int) (w60 : Int) (s61 : XS), j65 x3_58 w59 w60 s61 = some res → GX l cX0_see "VerbAtDusk" 4 (some .int) "see" [] x0 D true 1 4 cN sN (0, res) s61 196 [(0, .ref (ad x0 0)), (3, J x3_58)] [J w59, J w60, .ref (ad x0 164)] := by
        clear h
        intro x3_58 w59 w60 s61 h
        subst ej65
        obtain ⟨g62, h⟩ := gd_e h
        obtain ⟨s63, es63, h⟩ := bnd_e h
        refine gx_iast 196 (tgs (show stc 164 = (101, 16) by decide) (by decide)) (st0 (show stc 164 = (101, 16) by decide) (by decide)) (stm (show stc 164 = (101, 16) by decide) (by decide)) (oks (show stc 164 = (101, 16) by decide) (by decide) g62) es63 dX0_see_196 ?_
        obtain ⟨x3_64, ex3_64, h⟩ := bnd_e h
        refine gx_iinc 197 1 [(3, J x3_64), (0, .ref (ad x0 0))] dX0_see_197 rfl ex3_64 (by decide) rfl ?_
        refine gx_goto 200 127 dX0_see_200 (by decide) ?_
        refine gx_sub [1, 0] rfl ?_
        exact ih _ _ h
      refine gx_icmp_ne 180 187 dX0_see_180 (by decide) (fun c66 => ?_) (fun c66 => ?_)
      · replace h := if_f h c66
        refine gx_aload_n 187 0 dX0_see_187 rfl ?_
        refine gx_iconst 188 dX0_see_188 ?_
        refine gx_iload_n 189 1 dX0_see_189 rfl ?_
        refine gx_imul 190 dX0_see_190 ?_
        refine gx_iconst 191 dX0_see_191 ?_
        refine gx_iadd 192 dX0_see_192 ?_
        obtain ⟨z67, ez67, h⟩ := opt_e h
        refine gx_callV (As := [J ((3 * x3_47) + 2)]) (rest := [J x3_47, .ref (ad x0 164)]) (st' := [J z67.1, J x3_47, .ref (ad x0 164)]) 193 1 cw1 (tgs (show stc 0 = (1, 0) by decide) (by decide)) (mx0_byteAt ez67 l) (lw_V q1604 q1606 qs48 q147 q1607) (by decide +kernel) (by decide) rfl rfl (Nat.le_of_ble_eq_true rfl) dX0_see_193 rfl ?_
        refine gx_sub [0, 1] rfl ?_
        exact hj65 _ _ _ _ h
      · replace h := if_t h c66
        refine gx_iconst 183 dX0_see_183 ?_
        refine gx_goto 184 196 dX0_see_184 (by decide) ?_
        refine gx_sub [0, 1] rfl ?_
        exact hj65 _ _ _ _ h
theorem mx0_see {x0 : Nat} {D : XD} {s0 : XS} {res : Int × XS} (h : x0_see s0 = some res) (l : Launch) : XMet0 l yX0_see cX0_see 4 (some .int) 4 true x0 D [.ref (ad x0 0)] s0 1 res := by
  refine XMet0.ofn [(0, .ref (ad x0 0))] "VerbAtDusk" "see" rfl rfl (plainFor_of_name (by decide)) (Nat.le_of_ble_eq_true rfl) rfl ?_
  unfold x0_see at h
  generalize nC s0 = cN
  generalize nS s0 = sN
  refine gx_aload_n 0 0 dX0_see_0 rfl ?_
  obtain ⟨z1, ez1, h⟩ := opt_e h
  refine gx_callV (As := []) (rest := []) (st' := [J z1.1]) 1 0 cw1 (tgs (show stc 0 = (1, 0) by decide) (by decide)) (mx0_taken ez1 l) (lw_V q617 q619 qs3 q147 q620) (by decide +kernel) (by decide) rfl rfl (Nat.le_of_ble_eq_true rfl) dX0_see_1 rfl ?_
  obtain ⟨x1_2, ex1_2, h⟩ := bnd_e h
  refine gx_istore_n 4 [(1, J x1_2), (0, .ref (ad x0 0))] dX0_see_4 (by decide) ex1_2 rfl ?_
  refine gx_aload_n 5 1 dX0_see_5 rfl ?_
  obtain ⟨z3, ez3, h⟩ := opt_e h
  refine gx_callV (As := []) (rest := []) (st' := [J z3.1]) 6 0 cw1 (tgs (show stc 0 = (1, 0) by decide) (by decide)) (mx0_isCountry ez3 l) (lw_V q1516 q1518 qs42 q147 q1519) (by decide +kernel) (by decide) rfl rfl (Nat.le_of_ble_eq_true rfl) dX0_see_6 rfl ?_
  obtain ⟨j70, ej70, h⟩ := bnd_e h
  have hj70 : ∀ (x1_4 : Int) (w5 : Int) (s6 : XS), j70 x1_4 w5 s6 = some res → GX l cX0_see "VerbAtDusk" 4 (some .int) "see" [] x0 D true 1 4 cN sN (0, res) s6 33 [(0, .ref (ad x0 0)), (1, J x1_4)] [J w5] := by
    clear h
    intro x1_4 w5 s6 h
    subst ej70
    refine gx_istore_n 33 [(2, J w5), (0, .ref (ad x0 0)), (1, J x1_4)] dX0_see_33 (by decide) rfl rfl ?_
    refine gx_iconst 34 dX0_see_34 ?_
    obtain ⟨x3_7, ex3_7, h⟩ := bnd_e h
    refine gx_istore_n 35 [(3, J x3_7), (2, J w5), (0, .ref (ad x0 0)), (1, J x1_4)] dX0_see_35 (by decide) ex3_7 rfl ?_
    refine gx_sub [2, 3, 1, 0] rfl ?_
    refine wx0_see_L36 (fun x1_41 x2_42 s43 h => ?_) FU _ _ _ _ h
    · refine gx_iload_n 108 2 dX0_see_108 rfl ?_
      refine gx_if_ne 109 118 dX0_see_109 (by decide) (fun c44 => ?_) (fun c44 => ?_)
      · replace h := if_f h c44
        refine gx_aload_n 118 0 dX0_see_118 rfl ?_
        refine gx_iload_n 119 1 dX0_see_119 rfl ?_
        refine gx_iconst 120 dX0_see_120 ?_
        refine gx_idiv 121 dX0_see_121 (by decide) ?_
        obtain ⟨s45, es45, h⟩ := bnd_e h
        refine gx_put (t := 1) (k := 16) (x := (idiv x1_41 3)) (ty := .int) 122 cw1 (by decide) (tgs (show stc 0 = (1, 0) by decide) (by decide)) (st0 (show stc 0 = (1, 0) by decide) (by decide)) (stm (show stc 0 = (1, 0) by decide) (by decide)) q539 same_f rfl (by decide +kernel) rfl rfl (congrArg J (ux_s _ _ _ _)) es45 dX0_see_122 ?_
        refine gx_iconst 125 dX0_see_125 ?_
        obtain ⟨x3_46, ex3_46, h⟩ := bnd_e h
        refine gx_istore_n 126 [(3, J x3_46), (0, .ref (ad x0 0)), (1, J x1_41), (2, J x2_42)] dX0_see_126 (by decide) ex3_46 rfl ?_
        refine gx_sub [1, 0] rfl ?_
        refine wx0_see_L127 (fun s68 h => ?_) FU _ _ h
        · refine gx_aload_n 203 0 dX0_see_203 rfl ?_
          refine gx_get (t := 1) (k := 16) (v := J (s68 0 16)) 204 cw1 (by decide) (tgs (show stc 0 = (1, 0) by decide) (by decide)) q539 same_f rfl dX0_see_204 ?_
          exact gx_iret 207 dX0_see_207 (rt h)
      · replace h := if_t h c44
        refine gx_aload_n 112 0 dX0_see_112 rfl ?_
        refine gx_iconst 113 dX0_see_113 ?_
        obtain ⟨z69, ez69, h⟩ := opt_e h
        refine gx_callV (As := [J 1]) (rest := []) (st' := [J z69.1]) 114 1 cw1 (tgs (show stc 0 = (1, 0) by decide) (by decide)) (mx0_refuses ez69 l) (lw_V q600 q602 qs1 q147 q603) (by decide +kernel) (by decide) rfl rfl (Nat.le_of_ble_eq_true rfl) dX0_see_114 rfl ?_
        exact gx_iret 117 dX0_see_117 (rt h)
  obtain ⟨j73, ej73, h⟩ := bnd_e h
  have hj73 : ∀ (x1_71 : Int) (s72 : XS), j73 x1_71 s72 = some res → GX l cX0_see "VerbAtDusk" 4 (some .int) "see" [] x0 D true 1 4 cN sN (0, res) s72 32 [(0, .ref (ad x0 0)), (1, J x1_71)] [] := by
    clear h
    intro x1_71 s72 h
    subst ej73
    refine gx_iconst 32 dX0_see_32 ?_
    refine gx_sub [0, 1] rfl ?_
    exact hj70 _ _ _ h
  refine gx_if_eq 9 32 dX0_see_9 (by decide) (fun c74 => ?_) (fun c74 => ?_)
  · replace h := if_t h c74
    refine gx_sub [1, 0] rfl ?_
    exact hj73 _ _ h
  · replace h := if_f h c74
    refine gx_iload_n 12 0 dX0_see_12 rfl ?_
    refine gx_if_le 13 32 dX0_see_13 (by decide) (fun c75 => ?_) (fun c75 => ?_)
    · replace h := if_t h c75
      refine gx_sub [1, 0] rfl ?_
      exact hj73 _ _ h
    · replace h := if_f h c75
      refine gx_iload_n 16 0 dX0_see_16 rfl ?_
      refine gx_iconst 17 dX0_see_17 ?_
      refine gx_irem 18 dX0_see_18 (by decide) ?_
      refine gx_if_ne 19 32 dX0_see_19 (by decide) (fun c76 => ?_) (fun c76 => ?_)
      · replace h := if_f h c76
        refine gx_sub [1, 0] rfl ?_
        exact hj73 _ _ h
      · replace h := if_t h c76
        refine gx_iload_n 22 0 dX0_see_22 rfl ?_
        refine gx_bipush 23 dX0_see_23 (by decide) ?_
        refine gx_icmp_gt 25 32 dX0_see_25 (by decide) (fun c77 => ?_) (fun c77 => ?_)
        · replace h := if_t h c77
          refine gx_sub [1, 0] rfl ?_
          exact hj73 _ _ h
        · replace h := if_f h c77
          refine gx_iconst 28 dX0_see_28 ?_
          refine gx_goto 29 33 dX0_see_29 (by decide) ?_
          refine gx_sub [1, 0] rfl ?_
          exact hj70 _ _ _ h
/-! VerbAtDusk.canBe -/
noncomputable def x0_canBe_L65 (k125 : Int → Int → Int → Int → XS → Option (Int × XS)) : Nat → Int → Int → Int → Int → Int → XS → Option (Int × XS)
  | 0, _, _, _, _, _, _ => none
  | n + 1, x1_24, x2_25, x3_26, x4_27, x5_28, s29 =>
    if i32 (s29 0 16) ≤ i32 x5_28 then
      k125 x1_24 x2_25 x3_26 x4_27 s29
    else
      gd (ok 16 x5_28) <|
      bnd (fun (x1_37 : Int) (x2_38 : Int) (x4_39 : Int) (x5_40 : Int) (w41 : Int) (w42 : Int) (s43 : XS) =>
          bnd (w42 + w41) fun x3_44 =>
          bnd (x5_40 + 1) fun x5_45 =>
          x0_canBe_L65 k125 n x1_37 x2_38 x3_44 x4_39 x5_45 s43) fun j46 =>
      bnd (fun (x1_47 : Int) (x2_48 : Int) (x4_49 : Int) (x5_50 : Int) (w51 : Int) (s52 : XS) =>
          j46 x1_47 x2_48 x4_49 x5_50 0 w51 s52) fun j53 =>
      if i32 (s29 162 (i32 x5_28)) = i32 x4_27 then
        gd (ok 16 x5_28) <|
        gd (ok 6 (s29 163 (i32 x5_28))) <|
        gd (ok 16 x5_28) <|
        if i32 (s29 103 (i32 (s29 163 (i32 x5_28)))) = i32 (s29 164 (i32 x5_28)) then
          j46 x1_24 x2_25 x4_27 x5_28 1 x3_26 s29
        else
          j53 x1_24 x2_25 x4_27 x5_28 x3_26 s29
      else
        j53 x1_24 x2_25 x4_27 x5_28 x3_26 s29
noncomputable def x0_canBe_L22 (k131 : Int → XS → Option (Int × XS)) : Nat → Int → Int → Int → Int → XS → Option (Int × XS)
  | 0, _, _, _, _, _ => none
  | n + 1, x1_9, x2_10, x3_11, x4_12, s13 =>
    Option.bind (x0_isAhead (x4_12 + 1) 1 21 s13) fun z16 =>
    if i32 z16.1 = 0 then
      k131 x3_11 z16.2
    else
      Option.bind (x7_passes 99 z16.2) fun z18 =>
      gd (ok 10 x2_10) <|
      gd (ok 6 x1_9) <|
      gd (ok 21 x4_12) <|
      bnd (ux z18.2 (165 + 1 + i32 x2_10) (i32 x4_12) (z18.2 103 (i32 x1_9))) fun s22 =>
      bnd 0 fun x5_23 =>
      x0_canBe_L65
        (fun (x1_59 : Int) (x2_60 : Int) (x3_61 : Int) (x4_62 : Int) (s63 : XS) =>
          bnd (x4_62 + 1) fun x4_64 =>
          x0_canBe_L22 k131 n x1_59 x2_60 x3_61 x4_64 s63)
        FU x1_9 x2_10 x3_11 x4_12 x5_23 s22
noncomputable def x0_canBe (a1 : Int) (a2 : Int) (s0 : XS) : Option (Int × XS) :=
  Option.bind (x7_copy 99 36 s0) fun z3 =>
  gd (z3.1 = 99) <|
  gd (ok 6 a1) <|
  bnd (ux z3.2 102 (i32 a1) a2) fun s6 =>
  bnd 0 fun x3_7 =>
  bnd 0 fun x4_8 =>
  x0_canBe_L22
    (fun (x3_65 : Int) (s66 : XS) =>
      if i32 x3_65 = i32 (s66 0 16) then
        some (1, s66)
      else
        some (0, s66))
    FU a1 a2 x3_7 x4_8 s6
theorem wx0_canBe_L65 {l : Launch} {x0 : Nat} {D : XD} {cN sN : Nat} {res : Int × XS} {k125 : Int → Int → Int → Int → XS → Option (Int × XS)} (hk125 : ∀ (x1_30 : Int) (x2_31 : Int) (x3_32 : Int) (x4_33 : Int) (s34 : XS), k125 x1_30 x2_31 x3_32 x4_33 s34 = some res → GX l cX0_canBe "VerbAtDusk" 6 (some .boolean) "canBe" [] x0 D true 1 712 cN sN (0, res) s34 125 [(0, .ref (ad x0 0)), (1, J x1_30), (2, J x2_31), (3, J x3_32), (4, J x4_33)] []) : ∀ (n : Nat) (x1_24 : Int) (x2_25 : Int) (x3_26 : Int) (x4_27 : Int) (x5_28 : Int) (s29 : XS), x0_canBe_L65 k125 n x1_24 x2_25 x3_26 x4_27 x5_28 s29 = some res → GX l cX0_canBe "VerbAtDusk" 6 (some .boolean) "canBe" [] x0 D true 1 712 cN sN (0, res) s29 65 [(0, .ref (ad x0 0)), (1, J x1_24), (2, J x2_25), (3, J x3_26), (4, J x4_27), (5, J x5_28)] [] := by
  intro n
  induction n with
  | zero =>
    intro x1_24 x2_25 x3_26 x4_27 x5_28 s29 h
    cases h
  | succ n ih =>
    intro x1_24 x2_25 x3_26 x4_27 x5_28 s29 h
    rw [x0_canBe_L65] at h
    refine gx_iload 65 5 dX0_canBe_65 rfl ?_
    refine gx_aload_n 67 0 dX0_canBe_67 rfl ?_
    refine gx_get (t := 1) (k := 16) (v := J (s29 0 16)) 68 cw1 (by decide) (tgs (show stc 0 = (1, 0) by decide) (by decide)) q539 same_f rfl dX0_canBe_68 ?_
    refine gx_icmp_ge 71 125 dX0_canBe_71 (by decide) (fun c35 => ?_) (fun c35 => ?_)
    · replace h := if_t h c35
      refine gx_sub [0, 1, 2, 3, 4] rfl ?_
      exact hk125 _ _ _ _ _ h
    · replace h := if_f h c35
      refine gx_iload_n 74 3 dX0_canBe_74 rfl ?_
      refine gx_aload_n 75 0 dX0_canBe_75 rfl ?_
      refine gx_get (t := 1) (k := 13) (v := .ref (ad x0 162)) 76 cw1 (by decide) (tgs (show stc 0 = (1, 0) by decide) (by decide)) q536 same_f (rf_ne (nes (show stc 162 = (101, 16) by decide) (by decide))) dX0_canBe_76 ?_
      refine gx_iload 79 5 dX0_canBe_79 rfl ?_
      obtain ⟨g36, h⟩ := gd_e h
      refine gx_iald 81 (tgs (show stc 162 = (101, 16) by decide) (by decide)) (oks (show stc 162 = (101, 16) by decide) (by decide) g36) dX0_canBe_81 ?_
      refine gx_iload 82 4 dX0_canBe_82 rfl ?_
      obtain ⟨j46, ej46, h⟩ := bnd_e h
      have hj46 : ∀ (x1_37 : Int) (x2_38 : Int) (x4_39 : Int) (x5_40 : Int) (w41 : Int) (w42 : Int) (s43 : XS), j46 x1_37 x2_38 x4_39 x5_40 w41 w42 s43 = some res → GX l cX0_canBe "VerbAtDusk" 6 (some .boolean) "canBe" [] x0 D true 1 712 cN sN (0, res) s43 117 [(0, .ref (ad x0 0)), (1, J x1_37), (2, J x2_38), (4, J x4_39), (5, J x5_40)] [J w41, J w42] := by
        clear h
        intro x1_37 x2_38 x4_39 x5_40 w41 w42 s43 h
        subst ej46
        refine gx_iadd 117 dX0_canBe_117 ?_
        obtain ⟨x3_44, ex3_44, h⟩ := bnd_e h
        refine gx_istore_n 118 [(3, J x3_44), (0, .ref (ad x0 0)), (1, J x1_37), (2, J x2_38), (4, J x4_39), (5, J x5_40)] dX0_canBe_118 (by decide) ex3_44 rfl ?_
        obtain ⟨x5_45, ex5_45, h⟩ := bnd_e h
        refine gx_iinc 119 5 [(5, J x5_45), (3, J x3_44), (0, .ref (ad x0 0)), (1, J x1_37), (2, J x2_38), (4, J x4_39)] dX0_canBe_119 rfl ex5_45 (by decide) rfl ?_
        refine gx_goto 122 65 dX0_canBe_122 (by decide) ?_
        refine gx_sub [2, 3, 4, 1, 5, 0] rfl ?_
        exact ih _ _ _ _ _ _ h
      obtain ⟨j53, ej53, h⟩ := bnd_e h
      have hj53 : ∀ (x1_47 : Int) (x2_48 : Int) (x4_49 : Int) (x5_50 : Int) (w51 : Int) (s52 : XS), j53 x1_47 x2_48 x4_49 x5_50 w51 s52 = some res → GX l cX0_canBe "VerbAtDusk" 6 (some .boolean) "canBe" [] x0 D true 1 712 cN sN (0, res) s52 116 [(0, .ref (ad x0 0)), (1, J x1_47), (2, J x2_48), (4, J x4_49), (5, J x5_50)] [J w51] := by
        clear h
        intro x1_47 x2_48 x4_49 x5_50 w51 s52 h
        subst ej53
        refine gx_iconst 116 dX0_canBe_116 ?_
        refine gx_sub [0, 1, 2, 3, 4] rfl ?_
        exact hj46 _ _ _ _ _ _ _ h
      refine gx_icmp_ne 84 116 dX0_canBe_84 (by decide) (fun c54 => ?_) (fun c54 => ?_)
      · replace h := if_f h c54
        refine gx_sub [0, 1, 2, 4, 5] rfl ?_
        exact hj53 _ _ _ _ _ _ h
      · replace h := if_t h c54
        refine gx_aload_n 87 0 dX0_canBe_87 rfl ?_
        refine gx_get (t := 1) (k := 12) (v := .ref (ad x0 99)) 88 cw1 (by decide) (tgs (show stc 0 = (1, 0) by decide) (by decide)) q535 same_f (rf_ne (nes (show stc 99 = (8, 6) by decide) (by decide))) dX0_canBe_88 ?_
        refine gx_getN (t := 8) (k := 6) (v := .ref (ad x0 103)) 91 cw8 (by decide) (tgs (show stc 99 = (8, 6) by decide) (by decide)) q488 same_f (rf_ne (nes (show stc 103 = (101, 6) by decide) (by decide))) dX0_canBe_91 ?_
        refine gx_aload_n 94 0 dX0_canBe_94 rfl ?_
        refine gx_get (t := 1) (k := 14) (v := .ref (ad x0 163)) 95 cw1 (by decide) (tgs (show stc 0 = (1, 0) by decide) (by decide)) q537 same_f (rf_ne (nes (show stc 163 = (101, 16) by decide) (by decide))) dX0_canBe_95 ?_
        refine gx_iload 98 5 dX0_canBe_98 rfl ?_
        obtain ⟨g55, h⟩ := gd_e h
        refine gx_iald 100 (tgs (show stc 163 = (101, 16) by decide) (by decide)) (oks (show stc 163 = (101, 16) by decide) (by decide) g55) dX0_canBe_100 ?_
        obtain ⟨g56, h⟩ := gd_e h
        refine gx_iald 101 (tgs (show stc 103 = (101, 6) by decide) (by decide)) (oks (show stc 103 = (101, 6) by decide) (by decide) g56) dX0_canBe_101 ?_
        refine gx_aload_n 102 0 dX0_canBe_102 rfl ?_
        refine gx_get (t := 1) (k := 15) (v := .ref (ad x0 164)) 103 cw1 (by decide) (tgs (show stc 0 = (1, 0) by decide) (by decide)) q538 same_f (rf_ne (nes (show stc 164 = (101, 16) by decide) (by decide))) dX0_canBe_103 ?_
        refine gx_iload 106 5 dX0_canBe_106 rfl ?_
        obtain ⟨g57, h⟩ := gd_e h
        refine gx_iald 108 (tgs (show stc 164 = (101, 16) by decide) (by decide)) (oks (show stc 164 = (101, 16) by decide) (by decide) g57) dX0_canBe_108 ?_
        refine gx_icmp_ne 109 116 dX0_canBe_109 (by decide) (fun c58 => ?_) (fun c58 => ?_)
        · replace h := if_f h c58
          refine gx_sub [0, 1, 2, 4, 5] rfl ?_
          exact hj53 _ _ _ _ _ _ h
        · replace h := if_t h c58
          refine gx_iconst 112 dX0_canBe_112 ?_
          refine gx_goto 113 117 dX0_canBe_113 (by decide) ?_
          refine gx_sub [0, 1, 2, 4, 5] rfl ?_
          exact hj46 _ _ _ _ _ _ _ h
theorem wx0_canBe_L22 {l : Launch} {x0 : Nat} {D : XD} {cN sN : Nat} {res : Int × XS} {k131 : Int → XS → Option (Int × XS)} (hk131 : ∀ (x3_14 : Int) (s15 : XS), k131 x3_14 s15 = some res → GX l cX0_canBe "VerbAtDusk" 6 (some .boolean) "canBe" [] x0 D true 1 712 cN sN (0, res) s15 131 [(0, .ref (ad x0 0)), (3, J x3_14)] []) : ∀ (n : Nat) (x1_9 : Int) (x2_10 : Int) (x3_11 : Int) (x4_12 : Int) (s13 : XS), x0_canBe_L22 k131 n x1_9 x2_10 x3_11 x4_12 s13 = some res → GX l cX0_canBe "VerbAtDusk" 6 (some .boolean) "canBe" [] x0 D true 1 712 cN sN (0, res) s13 22 [(0, .ref (ad x0 0)), (1, J x1_9), (2, J x2_10), (3, J x3_11), (4, J x4_12)] [] := by
  intro n
  induction n with
  | zero =>
    intro x1_9 x2_10 x3_11 x4_12 s13 h
    cases h
  | succ n ih =>
    intro x1_9 x2_10 x3_11 x4_12 s13 h
    rw [x0_canBe_L22] at h
    refine gx_aload_n 22 0 dX0_canBe_22 rfl ?_
    refine gx_iload 23 4 dX0_canBe_23 rfl ?_
    refine gx_iconst 25 dX0_canBe_25 ?_
    refine gx_iadd 26 dX0_canBe_26 ?_
    refine gx_iconst 27 dX0_canBe_27 ?_
    refine gx_bipush 28 dX0_canBe_28 (by decide) ?_
    obtain ⟨z16, ez16, h⟩ := opt_e h
    refine gx_callV (As := [J (x4_12 + 1), J 1, J 21]) (rest := []) (st' := [J z16.1]) 30 3 cw1 (tgs (show stc 0 = (1, 0) by decide) (by decide)) (mx0_isAhead ez16 l) (lw_V q1568 q1570 qs45 q147 q1571) (by decide +kernel) (by decide) rfl rfl (Nat.le_of_ble_eq_true rfl) dX0_canBe_30 rfl ?_
    refine gx_if_eq 33 131 dX0_canBe_33 (by decide) (fun c17 => ?_) (fun c17 => ?_)
    · replace h := if_t h c17
      refine gx_sub [0, 3] rfl ?_
      exact hk131 _ _ h
    · replace h := if_f h c17
      refine gx_aload_n 36 0 dX0_canBe_36 rfl ?_
      refine gx_get (t := 1) (k := 12) (v := .ref (ad x0 99)) 37 cw1 (by decide) (tgs (show stc 0 = (1, 0) by decide) (by decide)) q535 same_f (rf_ne (nes (show stc 99 = (8, 6) by decide) (by decide))) dX0_canBe_37 ?_
      obtain ⟨z18, ez18, h⟩ := opt_e h
      refine gx_callV (As := []) (rest := []) (st' := [J z18.1]) 40 0 cw8 (tgs (show stc 99 = (8, 6) by decide) (by decide)) (mx7_passes ez18 l) (lw_V q1572 q1573 q1574 q160 q1575) (by decide +kernel) (by decide) rfl rfl (Nat.le_of_ble_eq_true rfl) dX0_canBe_40 rfl ?_
      refine gx_pop 43 dX0_canBe_43 rfl ?_
      refine gx_aload_n 44 0 dX0_canBe_44 rfl ?_
      refine gx_get (t := 1) (k := 17) (v := .ref (ad x0 165)) 45 cw1 (by decide) (tgs (show stc 0 = (1, 0) by decide) (by decide)) q540 same_f (rf_ne (nes (show stc 165 = (121, 10) by decide) (by decide))) dX0_canBe_45 ?_
      refine gx_iload_n 48 2 dX0_canBe_48 rfl ?_
      obtain ⟨g19, h⟩ := gd_e h
      refine gx_aald (t := 121) (ty := (.array .int)) (r := (165 + 1 + i32 x2_10)) 49 (by decide) rfl (by decide) (tgs (show stc 165 = (121, 10) by decide) (by decide)) (oks (show stc 165 = (121, 10) by decide) (by decide) g19) rfl (nes (s2_by g19) (by decide)) dX0_canBe_49 ?_
      refine gx_iload 50 4 dX0_canBe_50 rfl ?_
      refine gx_aload_n 52 0 dX0_canBe_52 rfl ?_
      refine gx_get (t := 1) (k := 12) (v := .ref (ad x0 99)) 53 cw1 (by decide) (tgs (show stc 0 = (1, 0) by decide) (by decide)) q535 same_f (rf_ne (nes (show stc 99 = (8, 6) by decide) (by decide))) dX0_canBe_53 ?_
      refine gx_getN (t := 8) (k := 6) (v := .ref (ad x0 103)) 56 cw8 (by decide) (tgs (show stc 99 = (8, 6) by decide) (by decide)) q488 same_f (rf_ne (nes (show stc 103 = (101, 6) by decide) (by decide))) dX0_canBe_56 ?_
      refine gx_iload_n 59 1 dX0_canBe_59 rfl ?_
      obtain ⟨g20, h⟩ := gd_e h
      refine gx_iald 60 (tgs (show stc 103 = (101, 6) by decide) (by decide)) (oks (show stc 103 = (101, 6) by decide) (by decide) g20) dX0_canBe_60 ?_
      obtain ⟨g21, h⟩ := gd_e h
      obtain ⟨s22, es22, h⟩ := bnd_e h
      refine gx_iast 61 (tgs (s2_by g19) (by decide)) (st0 (s2_by g19) (by decide)) (stm (s2_by g19) (by decide)) (oks (s2_by g19) (by decide) g21) es22 dX0_canBe_61 ?_
      refine gx_iconst 62 dX0_canBe_62 ?_
      obtain ⟨x5_23, ex5_23, h⟩ := bnd_e h
      refine gx_istore 63 [(5, J x5_23), (0, .ref (ad x0 0)), (1, J x1_9), (2, J x2_10), (3, J x3_11), (4, J x4_12)] dX0_canBe_63 (by decide) ex5_23 rfl ?_
      refine gx_sub [1, 2, 3, 4, 5, 0] rfl ?_
      refine wx0_canBe_L65 (fun x1_59 x2_60 x3_61 x4_62 s63 h => ?_) FU _ _ _ _ _ _ h
      · obtain ⟨x4_64, ex4_64, h⟩ := bnd_e h
        refine gx_iinc 125 4 [(4, J x4_64), (0, .ref (ad x0 0)), (1, J x1_59), (2, J x2_60), (3, J x3_61)] dX0_canBe_125 rfl ex4_64 (by decide) rfl ?_
        refine gx_goto 128 22 dX0_canBe_128 (by decide) ?_
        refine gx_sub [1, 2, 3, 4, 0] rfl ?_
        exact ih _ _ _ _ _ h
theorem mx0_canBe {x0 : Nat} {D : XD} {a1 : Int} {a2 : Int} {s0 : XS} {res : Int × XS} (h : x0_canBe a1 a2 s0 = some res) (l : Launch) : XMet0 l yX0_canBe cX0_canBe 6 (some .boolean) 712 true x0 D [.ref (ad x0 0), J a1, J a2] s0 1 res := by
  refine XMet0.ofn [(0, .ref (ad x0 0)), (1, J a1), (2, J a2)] "VerbAtDusk" "canBe" rfl rfl (plainFor_of_name (by decide)) (Nat.le_of_ble_eq_true rfl) rfl ?_
  unfold x0_canBe at h
  generalize nC s0 = cN
  generalize nS s0 = sN
  refine gx_aload_n 0 0 dX0_canBe_0 rfl ?_
  refine gx_get (t := 1) (k := 12) (v := .ref (ad x0 99)) 1 cw1 (by decide) (tgs (show stc 0 = (1, 0) by decide) (by decide)) q535 same_f (rf_ne (nes (show stc 99 = (8, 6) by decide) (by decide))) dX0_canBe_1 ?_
  refine gx_aload_n 4 0 dX0_canBe_4 rfl ?_
  refine gx_get (t := 1) (k := 11) (v := .ref (ad x0 36)) 5 cw1 (by decide) (tgs (show stc 0 = (1, 0) by decide) (by decide)) q534 same_f (rf_ne (nes (show stc 36 = (8, 6) by decide) (by decide))) dX0_canBe_5 ?_
  obtain ⟨z3, ez3, h⟩ := opt_e h
  refine gx_callV (As := [.ref (ad x0 36)]) (rest := []) (st' := [.ref (ad x0 z3.1)]) 8 1 cw8 (tgs (show stc 99 = (8, 6) by decide) (by decide)) (mx7_copy ez3 l) (lw_V q1560 q1561 q1562 q160 q1563) (by decide +kernel) (by decide) rfl rfl (Nat.le_of_ble_eq_true rfl) dX0_canBe_8 rfl ?_
  obtain ⟨g4, h⟩ := gd_e h
  rw [g4]
  refine gx_getN (t := 8) (k := 5) (v := .ref (ad x0 102)) 11 cw8 (by decide) (tgs (show stc 99 = (8, 6) by decide) (by decide)) q486 same_f (rf_ne (nes (show stc 102 = (101, 6) by decide) (by decide))) dX0_canBe_11 ?_
  refine gx_iload_n 14 1 dX0_canBe_14 rfl ?_
  refine gx_iload_n 15 2 dX0_canBe_15 rfl ?_
  obtain ⟨g5, h⟩ := gd_e h
  obtain ⟨s6, es6, h⟩ := bnd_e h
  refine gx_iast 16 (tgs (show stc 102 = (101, 6) by decide) (by decide)) (st0 (show stc 102 = (101, 6) by decide) (by decide)) (stm (show stc 102 = (101, 6) by decide) (by decide)) (oks (show stc 102 = (101, 6) by decide) (by decide) g5) es6 dX0_canBe_16 ?_
  refine gx_iconst 17 dX0_canBe_17 ?_
  obtain ⟨x3_7, ex3_7, h⟩ := bnd_e h
  refine gx_istore_n 18 [(3, J x3_7), (0, .ref (ad x0 0)), (1, J a1), (2, J a2)] dX0_canBe_18 (by decide) ex3_7 rfl ?_
  refine gx_iconst 19 dX0_canBe_19 ?_
  obtain ⟨x4_8, ex4_8, h⟩ := bnd_e h
  refine gx_istore 20 [(4, J x4_8), (3, J x3_7), (0, .ref (ad x0 0)), (1, J a1), (2, J a2)] dX0_canBe_20 (by decide) ex4_8 rfl ?_
  refine gx_sub [2, 3, 4, 1, 0] rfl ?_
  refine wx0_canBe_L22 (fun x3_65 s66 h => ?_) FU _ _ _ _ _ h
  · refine gx_iload_n 131 1 dX0_canBe_131 rfl ?_
    refine gx_aload_n 132 0 dX0_canBe_132 rfl ?_
    refine gx_get (t := 1) (k := 16) (v := J (s66 0 16)) 133 cw1 (by decide) (tgs (show stc 0 = (1, 0) by decide) (by decide)) q539 same_f rfl dX0_canBe_133 ?_
    refine gx_icmp_ne 136 143 dX0_canBe_136 (by decide) (fun c67 => ?_) (fun c67 => ?_)
    · replace h := if_f h c67
      refine gx_iconst 143 dX0_canBe_143 ?_
      exact gx_zret 144 dX0_canBe_144 (by decide) (rt h)
    · replace h := if_t h c67
      refine gx_iconst 139 dX0_canBe_139 ?_
      refine gx_goto 140 144 dX0_canBe_140 (by decide) ?_
      exact gx_zret 144 dX0_canBe_144 (by decide) (rt h)
/-! VerbAtDusk.tones -/
noncomputable def x0_tones_L14 (k45 : Int → XS → Option (Int × XS)) : Nat → Int → Int → Int → XS → Option (Int × XS)
  | 0, _, _, _, _ => none
  | n + 1, x1_6, x2_7, x3_8, s9 =>
    if i32 10 ≤ i32 x3_8 then
      k45 x2_7 s9
    else
      Option.bind (x0_canBe x1_6 x3_8 s9) fun z13 =>
      bnd (fun (x1_14 : Int) (x3_15 : Int) (w16 : Int) (w17 : Int) (s18 : XS) =>
          bnd (ior w17 w16) fun x2_19 =>
          bnd (x3_15 + 1) fun x3_20 =>
          x0_tones_L14 k45 n x1_14 x2_19 x3_20 s18) fun j21 =>
      if i32 z13.1 = 0 then
        j21 x1_6 x3_8 0 x2_7 z13.2
      else
        j21 x1_6 x3_8 (ishl 1 x3_8) x2_7 z13.2
noncomputable def x0_tones (a1 : Int) (s0 : XS) : Option (Int × XS) :=
  Option.bind (x0_isSaying a1 s0) fun z2 =>
  if i32 z2.1 = 0 then
    some ((-1), z2.2)
  else
    bnd 0 fun x2_4 =>
    bnd 0 fun x3_5 =>
    x0_tones_L14
      (fun (x2_23 : Int) (s24 : XS) =>
        some (x2_23, s24))
      FU a1 x2_4 x3_5 z2.2
theorem wx0_tones_L14 {l : Launch} {x0 : Nat} {D : XD} {cN sN : Nat} {res : Int × XS} {k45 : Int → XS → Option (Int × XS)} (hk45 : ∀ (x2_10 : Int) (s11 : XS), k45 x2_10 s11 = some res → GX l cX0_tones "VerbAtDusk" 4 (some .int) "tones" [] x0 D true 1 713 cN sN (0, res) s11 45 [(2, J x2_10)] []) : ∀ (n : Nat) (x1_6 : Int) (x2_7 : Int) (x3_8 : Int) (s9 : XS), x0_tones_L14 k45 n x1_6 x2_7 x3_8 s9 = some res → GX l cX0_tones "VerbAtDusk" 4 (some .int) "tones" [] x0 D true 1 713 cN sN (0, res) s9 14 [(0, .ref (ad x0 0)), (1, J x1_6), (2, J x2_7), (3, J x3_8)] [] := by
  intro n
  induction n with
  | zero =>
    intro x1_6 x2_7 x3_8 s9 h
    cases h
  | succ n ih =>
    intro x1_6 x2_7 x3_8 s9 h
    rw [x0_tones_L14] at h
    refine gx_iload_n 14 3 dX0_tones_14 rfl ?_
    refine gx_bipush 15 dX0_tones_15 (by decide) ?_
    refine gx_icmp_ge 17 45 dX0_tones_17 (by decide) (fun c12 => ?_) (fun c12 => ?_)
    · replace h := if_t h c12
      refine gx_sub [2] rfl ?_
      exact hk45 _ _ h
    · replace h := if_f h c12
      refine gx_iload_n 20 2 dX0_tones_20 rfl ?_
      refine gx_aload_n 21 0 dX0_tones_21 rfl ?_
      refine gx_iload_n 22 1 dX0_tones_22 rfl ?_
      refine gx_iload_n 23 3 dX0_tones_23 rfl ?_
      obtain ⟨z13, ez13, h⟩ := opt_e h
      refine gx_callV (As := [J x1_6, J x3_8]) (rest := [J x2_7]) (st' := [J z13.1, J x2_7]) 24 2 cw1 (tgs (show stc 0 = (1, 0) by decide) (by decide)) (mx0_canBe ez13 l) (lw_V q1612 q1614 qs49 q147 q1615) (by decide +kernel) (by decide) rfl rfl (Nat.le_of_ble_eq_true rfl) dX0_tones_24 rfl ?_
      obtain ⟨j21, ej21, h⟩ := bnd_e h
      have hj21 : ∀ (x1_14 : Int) (x3_15 : Int) (w16 : Int) (w17 : Int) (s18 : XS), j21 x1_14 x3_15 w16 w17 s18 = some res → GX l cX0_tones "VerbAtDusk" 4 (some .int) "tones" [] x0 D true 1 713 cN sN (0, res) s18 37 [(0, .ref (ad x0 0)), (1, J x1_14), (3, J x3_15)] [J w16, J w17] := by
        clear h
        intro x1_14 x3_15 w16 w17 s18 h
        subst ej21
        refine gx_ior 37 dX0_tones_37 ?_
        obtain ⟨x2_19, ex2_19, h⟩ := bnd_e h
        refine gx_istore_n 38 [(2, J x2_19), (0, .ref (ad x0 0)), (1, J x1_14), (3, J x3_15)] dX0_tones_38 (by decide) ex2_19 rfl ?_
        obtain ⟨x3_20, ex3_20, h⟩ := bnd_e h
        refine gx_iinc 39 3 [(3, J x3_20), (2, J x2_19), (0, .ref (ad x0 0)), (1, J x1_14)] dX0_tones_39 rfl ex3_20 (by decide) rfl ?_
        refine gx_goto 42 14 dX0_tones_42 (by decide) ?_
        refine gx_sub [2, 3, 1, 0] rfl ?_
        exact ih _ _ _ _ h
      refine gx_if_eq 27 36 dX0_tones_27 (by decide) (fun c22 => ?_) (fun c22 => ?_)
      · replace h := if_t h c22
        refine gx_iconst 36 dX0_tones_36 ?_
        refine gx_sub [0, 1, 3] rfl ?_
        exact hj21 _ _ _ _ _ h
      · replace h := if_f h c22
        refine gx_iconst 30 dX0_tones_30 ?_
        refine gx_iload_n 31 3 dX0_tones_31 rfl ?_
        refine gx_ishl 32 dX0_tones_32 ?_
        refine gx_goto 33 37 dX0_tones_33 (by decide) ?_
        refine gx_sub [0, 1, 3] rfl ?_
        exact hj21 _ _ _ _ _ h
theorem mx0_tones {x0 : Nat} {D : XD} {a1 : Int} {s0 : XS} {res : Int × XS} (h : x0_tones a1 s0 = some res) (l : Launch) : XMet0 l yX0_tones cX0_tones 4 (some .int) 713 true x0 D [.ref (ad x0 0), J a1] s0 1 res := by
  refine XMet0.ofn [(0, .ref (ad x0 0)), (1, J a1)] "VerbAtDusk" "tones" rfl rfl (plainFor_of_name (by decide)) (Nat.le_of_ble_eq_true rfl) rfl ?_
  unfold x0_tones at h
  generalize nC s0 = cN
  generalize nS s0 = sN
  refine gx_aload_n 0 0 dX0_tones_0 rfl ?_
  refine gx_iload_n 1 1 dX0_tones_1 rfl ?_
  obtain ⟨z2, ez2, h⟩ := opt_e h
  refine gx_callV (As := [J a1]) (rest := []) (st' := [J z2.1]) 2 1 cw1 (tgs (show stc 0 = (1, 0) by decide) (by decide)) (mx0_isSaying ez2 l) (lw_V q1346 q1348 qs35 q147 q1349) (by decide +kernel) (by decide) rfl rfl (Nat.le_of_ble_eq_true rfl) dX0_tones_2 rfl ?_
  refine gx_if_ne 5 10 dX0_tones_5 (by decide) (fun c3 => ?_) (fun c3 => ?_)
  · replace h := if_f h c3
    refine gx_iconst 10 dX0_tones_10 ?_
    obtain ⟨x2_4, ex2_4, h⟩ := bnd_e h
    refine gx_istore_n 11 [(2, J x2_4), (0, .ref (ad x0 0)), (1, J a1)] dX0_tones_11 (by decide) ex2_4 rfl ?_
    refine gx_iconst 12 dX0_tones_12 ?_
    obtain ⟨x3_5, ex3_5, h⟩ := bnd_e h
    refine gx_istore_n 13 [(3, J x3_5), (2, J x2_4), (0, .ref (ad x0 0)), (1, J a1)] dX0_tones_13 (by decide) ex3_5 rfl ?_
    refine gx_sub [2, 3, 1, 0] rfl ?_
    refine wx0_tones_L14 (fun x2_23 s24 h => ?_) FU _ _ _ _ h
    · refine gx_iload_n 45 0 dX0_tones_45 rfl ?_
      exact gx_iret 46 dX0_tones_46 (rt h)
  · replace h := if_t h c3
    refine gx_iconst 8 dX0_tones_8 ?_
    exact gx_iret 9 dX0_tones_9 (rt h)
/-! VerbAtDusk.tells -/
noncomputable def x0_tells_L65 (k129 : Int → Int → Int → Int → Int → Int → Int → Int → XS → Option (Int × XS)) : Nat → Int → Int → Int → Int → Int → Int → Int → Int → Int → XS → Option (Int × XS)
  | 0, _, _, _, _, _, _, _, _, _, _ => none
  | n + 1, x2_43, x3_44, x4_45, x5_46, x6_47, x7_48, x8_49, x9_50, x10_51, s52 =>
    if i32 10 ≤ i32 x10_51 then
      k129 x2_43 x3_44 x4_45 x5_46 x6_47 x7_48 x8_49 x9_50 s52
    else
      Option.bind (x0_has x3_44 x8_49 s52) fun z63 =>
      bnd (fun (x2_64 : Int) (x3_65 : Int) (x4_66 : Int) (x5_67 : Int) (x6_68 : Int) (x7_69 : Int) (x8_70 : Int) (x10_71 : Int) (w72 : Int) (w73 : Int) (s74 : XS) =>
          bnd (w73 + w72) fun x9_75 =>
          bnd (x10_71 + 1) fun x10_76 =>
          x0_tells_L65 k129 n x2_64 x3_65 x4_66 x5_67 x6_68 x7_69 x8_70 x9_75 x10_76 s74) fun j77 =>
      bnd (fun (x2_78 : Int) (x3_79 : Int) (x4_80 : Int) (x5_81 : Int) (x6_82 : Int) (x7_83 : Int) (x8_84 : Int) (x10_85 : Int) (w86 : Int) (s87 : XS) =>
          j77 x2_78 x3_79 x4_80 x5_81 x6_82 x7_83 x8_84 x10_85 0 w86 s87) fun j88 =>
      if i32 z63.1 = 0 then
        j88 x2_43 x3_44 x4_45 x5_46 x6_47 x7_48 x8_49 x10_51 x9_50 z63.2
      else
        Option.bind (x0_has x3_44 x10_51 z63.2) fun z90 =>
        if i32 z90.1 = 0 then
          j88 x2_43 x3_44 x4_45 x5_46 x6_47 x7_48 x8_49 x10_51 x9_50 z90.2
        else
          gd (ok 10 x8_49) <|
          gd (ok 21 x6_47) <|
          gd (ok 10 x10_51) <|
          gd (ok 21 x6_47) <|
          if i32 (z90.2 (165 + 1 + i32 x8_49) (i32 x6_47)) = i32 (z90.2 (165 + 1 + i32 x10_51) (i32 x6_47)) then
            j77 x2_43 x3_44 x4_45 x5_46 x6_47 x7_48 x8_49 x10_51 1 x9_50 z90.2
          else
            j88 x2_43 x3_44 x4_45 x5_46 x6_47 x7_48 x8_49 x10_51 x9_50 z90.2
noncomputable def x0_tells_L52 (k144 : Int → Int → Int → Int → Int → Int → XS → Option (Int × XS)) : Nat → Int → Int → Int → Int → Int → Int → Int → XS → Option (Int × XS)
  | 0, _, _, _, _, _, _, _, _ => none
  | n + 1, x2_25, x3_26, x4_27, x5_28, x6_29, x7_30, x8_31, s32 =>
    if i32 10 ≤ i32 x8_31 then
      k144 x2_25 x3_26 x4_27 x5_28 x6_29 x7_30 s32
    else
      bnd 0 fun x9_41 =>
      bnd 0 fun x10_42 =>
      x0_tells_L65
        (fun (x2_97 : Int) (x3_98 : Int) (x4_99 : Int) (x5_100 : Int) (x6_101 : Int) (x7_102 : Int) (x8_103 : Int) (x9_104 : Int) (s105 : XS) =>
          Option.bind (j12_max true x7_102 x9_104 s105) fun z106 =>
          bnd z106.1 fun x7_107 =>
          bnd (x8_103 + 1) fun x8_108 =>
          x0_tells_L52 k144 n x2_97 x3_98 x4_99 x5_100 x6_101 x7_107 x8_108 z106.2)
        FU x2_25 x3_26 x4_27 x5_28 x6_29 x7_30 x8_31 x9_41 x10_42 s32
noncomputable def x0_tells_L32 (k168 : Int → Int → Int → XS → Option (Int × XS)) : Nat → Int → Int → Int → Int → Int → XS → Option (Int × XS)
  | 0, _, _, _, _, _, _ => none
  | n + 1, x2_11, x3_12, x4_13, x5_14, x6_15, s16 =>
    Option.bind (x0_isAhead (x6_15 + 1) 1 21 s16) fun z21 =>
    if i32 z21.1 = 0 then
      k168 x2_11 x4_13 x5_14 z21.2
    else
      bnd 0 fun x7_23 =>
      bnd 0 fun x8_24 =>
      x0_tells_L52
        (fun (x2_109 : Int) (x3_110 : Int) (x4_111 : Int) (x5_112 : Int) (x6_113 : Int) (x7_114 : Int) (s115 : XS) =>
          bnd (fun (x2_116 : Int) (x3_117 : Int) (x4_118 : Int) (x5_119 : Int) (x6_120 : Int) (s121 : XS) =>
              bnd (x6_120 + 1) fun x6_122 =>
              x0_tells_L32 k168 n x2_116 x3_117 x4_118 x5_119 x6_122 s121) fun j123 =>
          if i32 x7_114 < i32 x5_112 then
            j123 x2_109 x3_110 x6_113 x7_114 x6_113 s115
          else
            j123 x2_109 x3_110 x4_111 x5_112 x6_113 s115)
        FU x2_11 x3_12 x4_13 x5_14 x6_15 x7_23 x8_24 z21.2
noncomputable def x0_tells (a1 : Int) (a2 : Int) (s0 : XS) : Option (Int × XS) :=
  Option.bind (x0_tones a1 s0) fun z3 =>
  bnd z3.1 fun x3_4 =>
  if i32 x3_4 ≤ 0 then
    some ((-1), z3.2)
  else
    Option.bind (x0_is a2 0 1 z3.2) fun z6 =>
    if i32 z6.1 = 0 then
      some ((-1), z6.2)
    else
      bnd (-1) fun x4_8 =>
      bnd 100000000 fun x5_9 =>
      bnd 0 fun x6_10 =>
      x0_tells_L32
        (fun (x2_125 : Int) (x4_126 : Int) (x5_127 : Int) (s128 : XS) =>
          bnd (fun (x4_129 : Int) (s130 : XS) =>
              some (x4_129, s130)) fun j131 =>
          if i32 x4_126 = i32 (-1) then
            j131 x4_126 s128
          else
            if i32 x2_125 = 0 then
              j131 x4_126 s128
            else
              some (x5_127, s128))
        FU a2 x3_4 x4_8 x5_9 x6_10 z6.2
theorem wx0_tells_L65 {l : Launch} {x0 : Nat} {D : XD} {cN sN : Nat} {res : Int × XS} {k129 : Int → Int → Int → Int → Int → Int → Int → Int → XS → Option (Int × XS)} (hk129 : ∀ (x2_53 : Int) (x3_54 : Int) (x4_55 : Int) (x5_56 : Int) (x6_57 : Int) (x7_58 : Int) (x8_59 : Int) (x9_60 : Int) (s61 : XS), k129 x2_53 x3_54 x4_55 x5_56 x6_57 x7_58 x8_59 x9_60 s61 = some res → GX l cX0_tells "VerbAtDusk" 11 (some .int) "tells" [] x0 D true 1 714 cN sN (0, res) s61 129 [(0, .ref (ad x0 0)), (2, J x2_53), (3, J x3_54), (4, J x4_55), (5, J x5_56), (6, J x6_57), (7, J x7_58), (8, J x8_59), (9, J x9_60)] []) : ∀ (n : Nat) (x2_43 : Int) (x3_44 : Int) (x4_45 : Int) (x5_46 : Int) (x6_47 : Int) (x7_48 : Int) (x8_49 : Int) (x9_50 : Int) (x10_51 : Int) (s52 : XS), x0_tells_L65 k129 n x2_43 x3_44 x4_45 x5_46 x6_47 x7_48 x8_49 x9_50 x10_51 s52 = some res → GX l cX0_tells "VerbAtDusk" 11 (some .int) "tells" [] x0 D true 1 714 cN sN (0, res) s52 65 [(0, .ref (ad x0 0)), (2, J x2_43), (3, J x3_44), (4, J x4_45), (5, J x5_46), (6, J x6_47), (7, J x7_48), (8, J x8_49), (9, J x9_50), (10, J x10_51)] [] := by
  intro n
  induction n with
  | zero =>
    intro x2_43 x3_44 x4_45 x5_46 x6_47 x7_48 x8_49 x9_50 x10_51 s52 h
    cases h
  | succ n ih =>
    intro x2_43 x3_44 x4_45 x5_46 x6_47 x7_48 x8_49 x9_50 x10_51 s52 h
    rw [x0_tells_L65] at h
    refine gx_iload 65 9 dX0_tells_65 rfl ?_
    refine gx_bipush 67 dX0_tells_67 (by decide) ?_
    refine gx_icmp_ge 69 129 dX0_tells_69 (by decide) (fun c62 => ?_) (fun c62 => ?_)
    · replace h := if_t h c62
      refine gx_sub [0, 1, 2, 3, 4, 5, 6, 7, 8] rfl ?_
      exact hk129 _ _ _ _ _ _ _ _ _ h
    · replace h := if_f h c62
      refine gx_iload 72 8 dX0_tells_72 rfl ?_
      refine gx_iload_n 74 2 dX0_tells_74 rfl ?_
      refine gx_iload 75 7 dX0_tells_75 rfl ?_
      obtain ⟨z63, ez63, h⟩ := opt_e h
      refine gx_callS (As := [J x3_44, J x8_49]) (rest := [J x9_50]) (st' := [J z63.1, J x9_50]) 77 2 (mx0_has ez63 l) (lw_S q1488 q1010 q147 q1011) (by decide +kernel) (by decide) rfl rfl (Nat.le_of_ble_eq_true rfl) dX0_tells_77 rfl ?_
      obtain ⟨j77, ej77, h⟩ := bnd_e h
      have hj77 : ∀ (x2_64 : Int) (x3_65 : Int) (x4_66 : Int) (x5_67 : Int) (x6_68 : Int) (x7_69 : Int) (x8_70 : Int) (x10_71 : Int) (w72 : Int) (w73 : Int) (s74 : XS), j77 x2_64 x3_65 x4_66 x5_67 x6_68 x7_69 x8_70 x10_71 w72 w73 s74 = some res → GX l cX0_tells "VerbAtDusk" 11 (some .int) "tells" [] x0 D true 1 714 cN sN (0, res) s74 120 [(0, .ref (ad x0 0)), (2, J x2_64), (3, J x3_65), (4, J x4_66), (5, J x5_67), (6, J x6_68), (7, J x7_69), (8, J x8_70), (10, J x10_71)] [J w72, J w73] := by
        clear h
        intro x2_64 x3_65 x4_66 x5_67 x6_68 x7_69 x8_70 x10_71 w72 w73 s74 h
        subst ej77
        refine gx_iadd 120 dX0_tells_120 ?_
        obtain ⟨x9_75, ex9_75, h⟩ := bnd_e h
        refine gx_istore 121 [(9, J x9_75), (0, .ref (ad x0 0)), (2, J x2_64), (3, J x3_65), (4, J x4_66), (5, J x5_67), (6, J x6_68), (7, J x7_69), (8, J x8_70), (10, J x10_71)] dX0_tells_121 (by decide) ex9_75 rfl ?_
        obtain ⟨x10_76, ex10_76, h⟩ := bnd_e h
        refine gx_iinc 123 9 [(10, J x10_76), (9, J x9_75), (0, .ref (ad x0 0)), (2, J x2_64), (3, J x3_65), (4, J x4_66), (5, J x5_67), (6, J x6_68), (7, J x7_69), (8, J x8_70)] dX0_tells_123 rfl ex10_76 (by decide) rfl ?_
        refine gx_goto 126 65 dX0_tells_126 (by decide) ?_
        refine gx_sub [2, 3, 4, 5, 6, 7, 8, 9, 1, 0] rfl ?_
        exact ih _ _ _ _ _ _ _ _ _ _ h
      obtain ⟨j88, ej88, h⟩ := bnd_e h
      have hj88 : ∀ (x2_78 : Int) (x3_79 : Int) (x4_80 : Int) (x5_81 : Int) (x6_82 : Int) (x7_83 : Int) (x8_84 : Int) (x10_85 : Int) (w86 : Int) (s87 : XS), j88 x2_78 x3_79 x4_80 x5_81 x6_82 x7_83 x8_84 x10_85 w86 s87 = some res → GX l cX0_tells "VerbAtDusk" 11 (some .int) "tells" [] x0 D true 1 714 cN sN (0, res) s87 119 [(0, .ref (ad x0 0)), (2, J x2_78), (3, J x3_79), (4, J x4_80), (5, J x5_81), (6, J x6_82), (7, J x7_83), (8, J x8_84), (10, J x10_85)] [J w86] := by
        clear h
        intro x2_78 x3_79 x4_80 x5_81 x6_82 x7_83 x8_84 x10_85 w86 s87 h
        subst ej88
        refine gx_iconst 119 dX0_tells_119 ?_
        refine gx_sub [0, 1, 2, 3, 4, 5, 6, 7, 8] rfl ?_
        exact hj77 _ _ _ _ _ _ _ _ _ _ _ h
      refine gx_if_eq 80 119 dX0_tells_80 (by decide) (fun c89 => ?_) (fun c89 => ?_)
      · replace h := if_t h c89
        refine gx_sub [0, 1, 2, 3, 4, 5, 6, 7, 9] rfl ?_
        exact hj88 _ _ _ _ _ _ _ _ _ _ h
      · replace h := if_f h c89
        refine gx_iload_n 83 2 dX0_tells_83 rfl ?_
        refine gx_iload 84 9 dX0_tells_84 rfl ?_
        obtain ⟨z90, ez90, h⟩ := opt_e h
        refine gx_callS (As := [J x3_44, J x10_51]) (rest := [J x9_50]) (st' := [J z90.1, J x9_50]) 86 2 (mx0_has ez90 l) (lw_S q1488 q1010 q147 q1011) (by decide +kernel) (by decide) rfl rfl (Nat.le_of_ble_eq_true rfl) dX0_tells_86 rfl ?_
        refine gx_if_eq 89 119 dX0_tells_89 (by decide) (fun c91 => ?_) (fun c91 => ?_)
        · replace h := if_t h c91
          refine gx_sub [0, 1, 2, 3, 4, 5, 6, 7, 9] rfl ?_
          exact hj88 _ _ _ _ _ _ _ _ _ _ h
        · replace h := if_f h c91
          refine gx_aload_n 92 0 dX0_tells_92 rfl ?_
          refine gx_get (t := 1) (k := 17) (v := .ref (ad x0 165)) 93 cw1 (by decide) (tgs (show stc 0 = (1, 0) by decide) (by decide)) q540 same_f (rf_ne (nes (show stc 165 = (121, 10) by decide) (by decide))) dX0_tells_93 ?_
          refine gx_iload 96 7 dX0_tells_96 rfl ?_
          obtain ⟨g92, h⟩ := gd_e h
          refine gx_aald (t := 121) (ty := (.array .int)) (r := (165 + 1 + i32 x8_49)) 98 (by decide) rfl (by decide) (tgs (show stc 165 = (121, 10) by decide) (by decide)) (oks (show stc 165 = (121, 10) by decide) (by decide) g92) rfl (nes (s2_by g92) (by decide)) dX0_tells_98 ?_
          refine gx_iload 99 5 dX0_tells_99 rfl ?_
          obtain ⟨g93, h⟩ := gd_e h
          refine gx_iald 101 (tgs (s2_by g92) (by decide)) (oks (s2_by g92) (by decide) g93) dX0_tells_101 ?_
          refine gx_aload_n 102 0 dX0_tells_102 rfl ?_
          refine gx_get (t := 1) (k := 17) (v := .ref (ad x0 165)) 103 cw1 (by decide) (tgs (show stc 0 = (1, 0) by decide) (by decide)) q540 same_f (rf_ne (nes (show stc 165 = (121, 10) by decide) (by decide))) dX0_tells_103 ?_
          refine gx_iload 106 9 dX0_tells_106 rfl ?_
          obtain ⟨g94, h⟩ := gd_e h
          refine gx_aald (t := 121) (ty := (.array .int)) (r := (165 + 1 + i32 x10_51)) 108 (by decide) rfl (by decide) (tgs (show stc 165 = (121, 10) by decide) (by decide)) (oks (show stc 165 = (121, 10) by decide) (by decide) g94) rfl (nes (s2_by g94) (by decide)) dX0_tells_108 ?_
          refine gx_iload 109 5 dX0_tells_109 rfl ?_
          obtain ⟨g95, h⟩ := gd_e h
          refine gx_iald 111 (tgs (s2_by g94) (by decide)) (oks (s2_by g94) (by decide) g95) dX0_tells_111 ?_
          refine gx_icmp_ne 112 119 dX0_tells_112 (by decide) (fun c96 => ?_) (fun c96 => ?_)
          · replace h := if_f h c96
            refine gx_sub [0, 1, 2, 3, 4, 5, 6, 7, 9] rfl ?_
            exact hj88 _ _ _ _ _ _ _ _ _ _ h
          · replace h := if_t h c96
            refine gx_iconst 115 dX0_tells_115 ?_
            refine gx_goto 116 120 dX0_tells_116 (by decide) ?_
            refine gx_sub [0, 1, 2, 3, 4, 5, 6, 7, 9] rfl ?_
            exact hj77 _ _ _ _ _ _ _ _ _ _ _ h
theorem wx0_tells_L52 {l : Launch} {x0 : Nat} {D : XD} {cN sN : Nat} {res : Int × XS} {k144 : Int → Int → Int → Int → Int → Int → XS → Option (Int × XS)} (hk144 : ∀ (x2_33 : Int) (x3_34 : Int) (x4_35 : Int) (x5_36 : Int) (x6_37 : Int) (x7_38 : Int) (s39 : XS), k144 x2_33 x3_34 x4_35 x5_36 x6_37 x7_38 s39 = some res → GX l cX0_tells "VerbAtDusk" 11 (some .int) "tells" [] x0 D true 1 714 cN sN (0, res) s39 144 [(0, .ref (ad x0 0)), (2, J x2_33), (3, J x3_34), (4, J x4_35), (5, J x5_36), (6, J x6_37), (7, J x7_38)] []) : ∀ (n : Nat) (x2_25 : Int) (x3_26 : Int) (x4_27 : Int) (x5_28 : Int) (x6_29 : Int) (x7_30 : Int) (x8_31 : Int) (s32 : XS), x0_tells_L52 k144 n x2_25 x3_26 x4_27 x5_28 x6_29 x7_30 x8_31 s32 = some res → GX l cX0_tells "VerbAtDusk" 11 (some .int) "tells" [] x0 D true 1 714 cN sN (0, res) s32 52 [(0, .ref (ad x0 0)), (2, J x2_25), (3, J x3_26), (4, J x4_27), (5, J x5_28), (6, J x6_29), (7, J x7_30), (8, J x8_31)] [] := by
  intro n
  induction n with
  | zero =>
    intro x2_25 x3_26 x4_27 x5_28 x6_29 x7_30 x8_31 s32 h
    cases h
  | succ n ih =>
    intro x2_25 x3_26 x4_27 x5_28 x6_29 x7_30 x8_31 s32 h
    rw [x0_tells_L52] at h
    refine gx_iload 52 7 dX0_tells_52 rfl ?_
    refine gx_bipush 54 dX0_tells_54 (by decide) ?_
    refine gx_icmp_ge 56 144 dX0_tells_56 (by decide) (fun c40 => ?_) (fun c40 => ?_)
    · replace h := if_t h c40
      refine gx_sub [0, 1, 2, 3, 4, 5, 6] rfl ?_
      exact hk144 _ _ _ _ _ _ _ h
    · replace h := if_f h c40
      refine gx_iconst 59 dX0_tells_59 ?_
      obtain ⟨x9_41, ex9_41, h⟩ := bnd_e h
      refine gx_istore 60 [(9, J x9_41), (0, .ref (ad x0 0)), (2, J x2_25), (3, J x3_26), (4, J x4_27), (5, J x5_28), (6, J x6_29), (7, J x7_30), (8, J x8_31)] dX0_tells_60 (by decide) ex9_41 rfl ?_
      refine gx_iconst 62 dX0_tells_62 ?_
      obtain ⟨x10_42, ex10_42, h⟩ := bnd_e h
      refine gx_istore 63 [(10, J x10_42), (9, J x9_41), (0, .ref (ad x0 0)), (2, J x2_25), (3, J x3_26), (4, J x4_27), (5, J x5_28), (6, J x6_29), (7, J x7_30), (8, J x8_31)] dX0_tells_63 (by decide) ex10_42 rfl ?_
      refine gx_sub [2, 3, 4, 5, 6, 7, 8, 9, 1, 0] rfl ?_
      refine wx0_tells_L65 (fun x2_97 x3_98 x4_99 x5_100 x6_101 x7_102 x8_103 x9_104 s105 h => ?_) FU _ _ _ _ _ _ _ _ _ _ h
      · refine gx_iload 129 6 dX0_tells_129 rfl ?_
        refine gx_iload 131 8 dX0_tells_131 rfl ?_
        obtain ⟨z106, ez106, h⟩ := opt_e h
        refine gx_callS (As := [J x7_102, J x9_104]) (rest := []) (st' := [J z106.1]) 133 2 (mj12_max ez106 l) (lw_S q1622 q938 q170 q939) (by decide +kernel) (by decide) rfl rfl (Nat.le_of_ble_eq_true rfl) dX0_tells_133 rfl ?_
        obtain ⟨x7_107, ex7_107, h⟩ := bnd_e h
        refine gx_istore 136 [(7, J x7_107), (0, .ref (ad x0 0)), (2, J x2_97), (3, J x3_98), (4, J x4_99), (5, J x5_100), (6, J x6_101), (8, J x8_103), (9, J x9_104)] dX0_tells_136 (by decide) ex7_107 rfl ?_
        obtain ⟨x8_108, ex8_108, h⟩ := bnd_e h
        refine gx_iinc 138 7 [(8, J x8_108), (7, J x7_107), (0, .ref (ad x0 0)), (2, J x2_97), (3, J x3_98), (4, J x4_99), (5, J x5_100), (6, J x6_101), (9, J x9_104)] dX0_tells_138 rfl ex8_108 (by decide) rfl ?_
        refine gx_goto 141 52 dX0_tells_141 (by decide) ?_
        refine gx_sub [2, 3, 4, 5, 6, 7, 1, 0] rfl ?_
        exact ih _ _ _ _ _ _ _ _ h
theorem wx0_tells_L32 {l : Launch} {x0 : Nat} {D : XD} {cN sN : Nat} {res : Int × XS} {k168 : Int → Int → Int → XS → Option (Int × XS)} (hk168 : ∀ (x2_17 : Int) (x4_18 : Int) (x5_19 : Int) (s20 : XS), k168 x2_17 x4_18 x5_19 s20 = some res → GX l cX0_tells "VerbAtDusk" 11 (some .int) "tells" [] x0 D true 1 714 cN sN (0, res) s20 168 [(2, J x2_17), (4, J x4_18), (5, J x5_19)] []) : ∀ (n : Nat) (x2_11 : Int) (x3_12 : Int) (x4_13 : Int) (x5_14 : Int) (x6_15 : Int) (s16 : XS), x0_tells_L32 k168 n x2_11 x3_12 x4_13 x5_14 x6_15 s16 = some res → GX l cX0_tells "VerbAtDusk" 11 (some .int) "tells" [] x0 D true 1 714 cN sN (0, res) s16 32 [(0, .ref (ad x0 0)), (2, J x2_11), (3, J x3_12), (4, J x4_13), (5, J x5_14), (6, J x6_15)] [] := by
  intro n
  induction n with
  | zero =>
    intro x2_11 x3_12 x4_13 x5_14 x6_15 s16 h
    cases h
  | succ n ih =>
    intro x2_11 x3_12 x4_13 x5_14 x6_15 s16 h
    rw [x0_tells_L32] at h
    refine gx_aload_n 32 0 dX0_tells_32 rfl ?_
    refine gx_iload 33 5 dX0_tells_33 rfl ?_
    refine gx_iconst 35 dX0_tells_35 ?_
    refine gx_iadd 36 dX0_tells_36 ?_
    refine gx_iconst 37 dX0_tells_37 ?_
    refine gx_bipush 38 dX0_tells_38 (by decide) ?_
    obtain ⟨z21, ez21, h⟩ := opt_e h
    refine gx_callV (As := [J (x6_15 + 1), J 1, J 21]) (rest := []) (st' := [J z21.1]) 40 3 cw1 (tgs (show stc 0 = (1, 0) by decide) (by decide)) (mx0_isAhead ez21 l) (lw_V q1568 q1570 qs45 q147 q1571) (by decide +kernel) (by decide) rfl rfl (Nat.le_of_ble_eq_true rfl) dX0_tells_40 rfl ?_
    refine gx_if_eq 43 168 dX0_tells_43 (by decide) (fun c22 => ?_) (fun c22 => ?_)
    · replace h := if_t h c22
      refine gx_sub [1, 3, 4] rfl ?_
      exact hk168 _ _ _ _ h
    · replace h := if_f h c22
      refine gx_iconst 46 dX0_tells_46 ?_
      obtain ⟨x7_23, ex7_23, h⟩ := bnd_e h
      refine gx_istore 47 [(7, J x7_23), (0, .ref (ad x0 0)), (2, J x2_11), (3, J x3_12), (4, J x4_13), (5, J x5_14), (6, J x6_15)] dX0_tells_47 (by decide) ex7_23 rfl ?_
      refine gx_iconst 49 dX0_tells_49 ?_
      obtain ⟨x8_24, ex8_24, h⟩ := bnd_e h
      refine gx_istore 50 [(8, J x8_24), (7, J x7_23), (0, .ref (ad x0 0)), (2, J x2_11), (3, J x3_12), (4, J x4_13), (5, J x5_14), (6, J x6_15)] dX0_tells_50 (by decide) ex8_24 rfl ?_
      refine gx_sub [2, 3, 4, 5, 6, 7, 1, 0] rfl ?_
      refine wx0_tells_L52 (fun x2_109 x3_110 x4_111 x5_112 x6_113 x7_114 s115 h => ?_) FU _ _ _ _ _ _ _ _ h
      · refine gx_iload 144 6 dX0_tells_144 rfl ?_
        refine gx_iload 146 4 dX0_tells_146 rfl ?_
        obtain ⟨j123, ej123, h⟩ := bnd_e h
        have hj123 : ∀ (x2_116 : Int) (x3_117 : Int) (x4_118 : Int) (x5_119 : Int) (x6_120 : Int) (s121 : XS), j123 x2_116 x3_117 x4_118 x5_119 x6_120 s121 = some res → GX l cX0_tells "VerbAtDusk" 11 (some .int) "tells" [] x0 D true 1 714 cN sN (0, res) s121 162 [(0, .ref (ad x0 0)), (2, J x2_116), (3, J x3_117), (4, J x4_118), (5, J x5_119), (6, J x6_120)] [] := by
          clear h
          intro x2_116 x3_117 x4_118 x5_119 x6_120 s121 h
          subst ej123
          obtain ⟨x6_122, ex6_122, h⟩ := bnd_e h
          refine gx_iinc 162 5 [(6, J x6_122), (0, .ref (ad x0 0)), (2, J x2_116), (3, J x3_117), (4, J x4_118), (5, J x5_119)] dX0_tells_162 rfl ex6_122 (by decide) rfl ?_
          refine gx_goto 165 32 dX0_tells_165 (by decide) ?_
          refine gx_sub [1, 2, 3, 4, 5, 0] rfl ?_
          exact ih _ _ _ _ _ _ h
        refine gx_icmp_lt 148 154 dX0_tells_148 (by decide) (fun c124 => ?_) (fun c124 => ?_)
        · replace h := if_t h c124
          refine gx_iload 154 6 dX0_tells_154 rfl ?_
          refine gx_istore 156 [(5, J x7_114), (0, .ref (ad x0 0)), (2, J x2_109), (3, J x3_110), (4, J x4_111), (6, J x6_113), (7, J x7_114)] dX0_tells_156 (by decide) rfl rfl ?_
          refine gx_iload 158 5 dX0_tells_158 rfl ?_
          refine gx_istore 160 [(4, J x6_113), (5, J x7_114), (0, .ref (ad x0 0)), (2, J x2_109), (3, J x3_110), (6, J x6_113), (7, J x7_114)] dX0_tells_160 (by decide) rfl rfl ?_
          refine gx_sub [2, 3, 4, 0, 1, 5] rfl ?_
          exact hj123 _ _ _ _ _ _ h
        · replace h := if_f h c124
          refine gx_goto 151 162 dX0_tells_151 (by decide) ?_
          refine gx_sub [0, 1, 2, 3, 4, 5] rfl ?_
          exact hj123 _ _ _ _ _ _ h
theorem mx0_tells {x0 : Nat} {D : XD} {a1 : Int} {a2 : Int} {s0 : XS} {res : Int × XS} (h : x0_tells a1 a2 s0 = some res) (l : Launch) : XMet0 l yX0_tells cX0_tells 11 (some .int) 714 true x0 D [.ref (ad x0 0), J a1, J a2] s0 1 res := by
  refine XMet0.ofn [(0, .ref (ad x0 0)), (1, J a1), (2, J a2)] "VerbAtDusk" "tells" rfl rfl (plainFor_of_name (by decide)) (Nat.le_of_ble_eq_true rfl) rfl ?_
  unfold x0_tells at h
  generalize nC s0 = cN
  generalize nS s0 = sN
  refine gx_aload_n 0 0 dX0_tells_0 rfl ?_
  refine gx_iload_n 1 1 dX0_tells_1 rfl ?_
  obtain ⟨z3, ez3, h⟩ := opt_e h
  refine gx_callV (As := [J a1]) (rest := []) (st' := [J z3.1]) 2 1 cw1 (tgs (show stc 0 = (1, 0) by decide) (by decide)) (mx0_tones ez3 l) (lw_V q1620 q1609 q1610 q147 q1611) (by decide +kernel) (by decide) rfl rfl (Nat.le_of_ble_eq_true rfl) dX0_tells_2 rfl ?_
  obtain ⟨x3_4, ex3_4, h⟩ := bnd_e h
  refine gx_istore_n 5 [(3, J x3_4), (0, .ref (ad x0 0)), (1, J a1), (2, J a2)] dX0_tells_5 (by decide) ex3_4 rfl ?_
  refine gx_iload_n 6 0 dX0_tells_6 rfl ?_
  refine gx_if_le 7 19 dX0_tells_7 (by decide) (fun c5 => ?_) (fun c5 => ?_)
  · replace h := if_t h c5
    refine gx_iconst 19 dX0_tells_19 ?_
    exact gx_iret 20 dX0_tells_20 (rt h)
  · replace h := if_f h c5
    refine gx_iload_n 10 3 dX0_tells_10 rfl ?_
    refine gx_iconst 11 dX0_tells_11 ?_
    refine gx_iconst 12 dX0_tells_12 ?_
    obtain ⟨z6, ez6, h⟩ := opt_e h
    refine gx_callS (As := [J a2, J 0, J 1]) (rest := []) (st' := [J z6.1]) 13 3 (mx0_is ez6 l) (lw_S q1320 q748 q147 q749) (by decide +kernel) (by decide) rfl rfl (Nat.le_of_ble_eq_true rfl) dX0_tells_13 rfl ?_
    refine gx_if_ne 16 21 dX0_tells_16 (by decide) (fun c7 => ?_) (fun c7 => ?_)
    · replace h := if_f h c7
      refine gx_iconst 21 dX0_tells_21 ?_
      obtain ⟨x4_8, ex4_8, h⟩ := bnd_e h
      refine gx_istore 22 [(4, J x4_8), (3, J x3_4), (0, .ref (ad x0 0)), (1, J a1), (2, J a2)] dX0_tells_22 (by decide) ex4_8 rfl ?_
      refine gx_ldc_w (v := 100000000) 24 dX0_tells_24 q1621 (by decide) ?_
      obtain ⟨x5_9, ex5_9, h⟩ := bnd_e h
      refine gx_istore 27 [(5, J x5_9), (4, J x4_8), (3, J x3_4), (0, .ref (ad x0 0)), (1, J a1), (2, J a2)] dX0_tells_27 (by decide) ex5_9 rfl ?_
      refine gx_iconst 29 dX0_tells_29 ?_
      obtain ⟨x6_10, ex6_10, h⟩ := bnd_e h
      refine gx_istore 30 [(6, J x6_10), (5, J x5_9), (4, J x4_8), (3, J x3_4), (0, .ref (ad x0 0)), (1, J a1), (2, J a2)] dX0_tells_30 (by decide) ex6_10 rfl ?_
      refine gx_sub [4, 6, 3, 2, 1, 0] rfl ?_
      refine wx0_tells_L32 (fun x2_125 x4_126 x5_127 s128 h => ?_) FU _ _ _ _ _ _ h
      · refine gx_iload 168 1 dX0_tells_168 rfl ?_
        refine gx_iconst 170 dX0_tells_170 ?_
        obtain ⟨j131, ej131, h⟩ := bnd_e h
        have hj131 : ∀ (x4_129 : Int) (s130 : XS), j131 x4_129 s130 = some res → GX l cX0_tells "VerbAtDusk" 11 (some .int) "tells" [] x0 D true 1 714 cN sN (0, res) s130 178 [(4, J x4_129)] [] := by
          clear h
          intro x4_129 s130 h
          subst ej131
          refine gx_iload 178 0 dX0_tells_178 rfl ?_
          refine gx_goto 180 185 dX0_tells_180 (by decide) ?_
          exact gx_iret 185 dX0_tells_185 (rt h)
        refine gx_icmp_eq 171 178 dX0_tells_171 (by decide) (fun c132 => ?_) (fun c132 => ?_)
        · replace h := if_t h c132
          refine gx_sub [1] rfl ?_
          exact hj131 _ _ h
        · replace h := if_f h c132
          refine gx_iload_n 174 0 dX0_tells_174 rfl ?_
          refine gx_if_ne 175 183 dX0_tells_175 (by decide) (fun c133 => ?_) (fun c133 => ?_)
          · replace h := if_f h c133
            refine gx_iload 183 2 dX0_tells_183 rfl ?_
            exact gx_iret 185 dX0_tells_185 (rt h)
          · replace h := if_t h c133
            refine gx_sub [1] rfl ?_
            exact hj131 _ _ h
    · replace h := if_t h c7
      refine gx_iconst 19 dX0_tells_19 ?_
      exact gx_iret 20 dX0_tells_20 (rt h)
/-! VerbAtDusk.keeps -/
noncomputable def x0_keeps_L18 (k44 : Int → XS → Option (Int × XS)) : Nat → Int → Int → XS → Option (Int × XS)
  | 0, _, _, _ => none
  | n + 1, x1_14, x2_15, s16 =>
    if i32 20 ≤ i32 x2_15 then
      k44 x1_14 s16
    else
      gd (ok 20 x2_15) <|
      gd (¬ (s16 176 (i32 x2_15)) = -1) <|
      gd (ok 20 (x2_15 - 1)) <|
      gd (tg true s16 (s16 176 (i32 x2_15)) = 8) <|
      gd (¬ (s16 176 (i32 x2_15)) = -1) <|
      bnd (ux s16 176 (i32 (x2_15 - 1)) (s16 176 (i32 x2_15))) fun s25 =>
      bnd (x2_15 + 1) fun x2_26 =>
      x0_keeps_L18 k44 n x1_14 x2_26 s25
noncomputable def x0_keeps (s0 : XS) : Option (Int × XS) :=
  bnd (fun (s1 : XS) =>
      gd (ok 20 (s1 0 19)) <|
      gd (¬ (s1 176 (i32 (s1 0 19))) = -1) <|
      gd (isSt (s1 176 (i32 (s1 0 19)))) <|
      Option.bind (x7_copy (s1 176 (i32 (s1 0 19))) 36 s1) fun z4 =>
      gd (z4.1 = (s1 176 (i32 (s1 0 19)))) <|
      bnd (ux z4.2 0 19 ((z4.2 0 19) + 1)) fun s7 =>
      some (0, s7)) fun j8 =>
  if i32 (s0 0 19) = i32 20 then
    gd (ok 20 0) <|
    gd (¬ (s0 176 (i32 0)) = -1) <|
    bnd (s0 176 (i32 0)) fun x1_12 =>
    bnd 1 fun x2_13 =>
    x0_keeps_L18
      (fun (x1_27 : Int) (s28 : XS) =>
        gd (ok 20 19) <|
        gd (tg true s28 x1_27 = 8) <|
        gd (¬ x1_27 = -1) <|
        bnd (ux s28 176 (i32 19) x1_27) fun s32 =>
        bnd (ux s32 0 19 ((s32 0 19) - 1)) fun s33 =>
        j8 s33)
      FU x1_12 x2_13 s0
  else
    j8 s0
theorem wx0_keeps_L18 {l : Launch} {x0 : Nat} {D : XD} {cN sN : Nat} {res : Int × XS} {k44 : Int → XS → Option (Int × XS)} (hk44 : ∀ (x1_17 : Int) (s18 : XS), k44 x1_17 s18 = some res → GX l cX0_keeps "VerbAtDusk" 3 none "keeps" [] x0 D true 0 2 cN sN (0, res) s18 44 [(0, .ref (ad x0 0)), (1, .ref (ad x0 x1_17))] []) : ∀ (n : Nat) (x1_14 : Int) (x2_15 : Int) (s16 : XS), x0_keeps_L18 k44 n x1_14 x2_15 s16 = some res → GX l cX0_keeps "VerbAtDusk" 3 none "keeps" [] x0 D true 0 2 cN sN (0, res) s16 18 [(0, .ref (ad x0 0)), (1, .ref (ad x0 x1_14)), (2, J x2_15)] [] := by
  intro n
  induction n with
  | zero =>
    intro x1_14 x2_15 s16 h
    cases h
  | succ n ih =>
    intro x1_14 x2_15 s16 h
    rw [x0_keeps_L18] at h
    refine gx_iload_n 18 2 dX0_keeps_18 rfl ?_
    refine gx_bipush 19 dX0_keeps_19 (by decide) ?_
    refine gx_icmp_ge 21 44 dX0_keeps_21 (by decide) (fun c19 => ?_) (fun c19 => ?_)
    · replace h := if_t h c19
      refine gx_sub [0, 1] rfl ?_
      exact hk44 _ _ h
    · replace h := if_f h c19
      refine gx_aload_n 24 0 dX0_keeps_24 rfl ?_
      refine gx_get (t := 1) (k := 18) (v := .ref (ad x0 176)) 25 cw1 (by decide) (tgs (show stc 0 = (1, 0) by decide) (by decide)) q541 same_f (rf_ne (nes (show stc 176 = (114, 20) by decide) (by decide))) dX0_keeps_25 ?_
      refine gx_iload_n 28 2 dX0_keeps_28 rfl ?_
      refine gx_iconst 29 dX0_keeps_29 ?_
      refine gx_isub 30 dX0_keeps_30 ?_
      refine gx_aload_n 31 0 dX0_keeps_31 rfl ?_
      refine gx_get (t := 1) (k := 18) (v := .ref (ad x0 176)) 32 cw1 (by decide) (tgs (show stc 0 = (1, 0) by decide) (by decide)) q541 same_f (rf_ne (nes (show stc 176 = (114, 20) by decide) (by decide))) dX0_keeps_32 ?_
      refine gx_iload_n 35 2 dX0_keeps_35 rfl ?_
      obtain ⟨g20, h⟩ := gd_e h
      obtain ⟨g21, h⟩ := gd_e h
      refine gx_aald (t := 114) (ty := (.object "VerbAtDusk$State")) (r := (s16 176 (i32 x2_15))) 36 (by decide) rfl (by decide) (tgs (show stc 176 = (114, 20) by decide) (by decide)) (oks (show stc 176 = (114, 20) by decide) (by decide) g20) rfl g21 dX0_keeps_36 ?_
      obtain ⟨g22, h⟩ := gd_e h
      obtain ⟨g23, h⟩ := gd_e h
      obtain ⟨g24, h⟩ := gd_e h
      obtain ⟨s25, es25, h⟩ := bnd_e h
      refine gx_aastS 37 (tgs (show stc 176 = (114, 20) by decide) (by decide)) (st0 (show stc 176 = (114, 20) by decide) (by decide)) (stm (show stc 176 = (114, 20) by decide) (by decide)) (oks (show stc 176 = (114, 20) by decide) (by decide) g22) g23 es25 dX0_keeps_37 g24 ?_
      obtain ⟨x2_26, ex2_26, h⟩ := bnd_e h
      refine gx_iinc 38 2 [(2, J x2_26), (0, .ref (ad x0 0)), (1, .ref (ad x0 x1_14))] dX0_keeps_38 rfl ex2_26 (by decide) rfl ?_
      refine gx_goto 41 18 dX0_keeps_41 (by decide) ?_
      refine gx_sub [1, 2, 0] rfl ?_
      exact ih _ _ _ h
theorem mx0_keeps {x0 : Nat} {D : XD} {s0 : XS} {res : Int × XS} (h : x0_keeps s0 = some res) (l : Launch) : XMet0 l yX0_keeps cX0_keeps 3 none 2 true x0 D [.ref (ad x0 0)] s0 0 res := by
  refine XMet0.ofn [(0, .ref (ad x0 0))] "VerbAtDusk" "keeps" rfl rfl (plainFor_of_name (by decide)) (Nat.le_of_ble_eq_true rfl) rfl ?_
  unfold x0_keeps at h
  generalize nC s0 = cN
  generalize nS s0 = sN
  refine gx_aload_n 0 0 dX0_keeps_0 rfl ?_
  refine gx_get (t := 1) (k := 19) (v := J (s0 0 19)) 1 cw1 (by decide) (tgs (show stc 0 = (1, 0) by decide) (by decide)) q542 same_f rfl dX0_keeps_1 ?_
  refine gx_bipush 4 dX0_keeps_4 (by decide) ?_
  obtain ⟨j8, ej8, h⟩ := bnd_e h
  have hj8 : ∀ (s1 : XS), j8 s1 = some res → GX l cX0_keeps "VerbAtDusk" 3 none "keeps" [] x0 D true 0 2 cN sN (0, res) s1 62 [(0, .ref (ad x0 0))] [] := by
    clear h
    intro s1 h
    subst ej8
    refine gx_aload_n 62 0 dX0_keeps_62 rfl ?_
    refine gx_get (t := 1) (k := 18) (v := .ref (ad x0 176)) 63 cw1 (by decide) (tgs (show stc 0 = (1, 0) by decide) (by decide)) q541 same_f (rf_ne (nes (show stc 176 = (114, 20) by decide) (by decide))) dX0_keeps_63 ?_
    refine gx_aload_n 66 0 dX0_keeps_66 rfl ?_
    refine gx_get (t := 1) (k := 19) (v := J (s1 0 19)) 67 cw1 (by decide) (tgs (show stc 0 = (1, 0) by decide) (by decide)) q542 same_f rfl dX0_keeps_67 ?_
    obtain ⟨g2, h⟩ := gd_e h
    obtain ⟨g3, h⟩ := gd_e h
    refine gx_aald (t := 114) (ty := (.object "VerbAtDusk$State")) (r := (s1 176 (i32 (s1 0 19)))) 70 (by decide) rfl (by decide) (tgs (show stc 176 = (114, 20) by decide) (by decide)) (oks (show stc 176 = (114, 20) by decide) (by decide) g2) rfl g3 dX0_keeps_70 ?_
    refine gx_aload_n 71 0 dX0_keeps_71 rfl ?_
    refine gx_get (t := 1) (k := 11) (v := .ref (ad x0 36)) 72 cw1 (by decide) (tgs (show stc 0 = (1, 0) by decide) (by decide)) q534 same_f (rf_ne (nes (show stc 36 = (8, 6) by decide) (by decide))) dX0_keeps_72 ?_
    obtain ⟨g5, h⟩ := gd_e h
    obtain ⟨z4, ez4, h⟩ := opt_e h
    refine gx_callV (As := [.ref (ad x0 36)]) (rest := []) (st' := [.ref (ad x0 z4.1)]) 75 1 cw8 (tgs (st_0 g5) (by decide)) (mx7_copy ez4 l) (lw_V q1560 q1561 q1562 q160 q1563) (by decide +kernel) (by decide) rfl rfl (Nat.le_of_ble_eq_true rfl) dX0_keeps_75 rfl ?_
    obtain ⟨g6, h⟩ := gd_e h
    rw [g6]
    refine gx_pop 78 dX0_keeps_78 rfl ?_
    refine gx_aload_n 79 0 dX0_keeps_79 rfl ?_
    refine gx_dup 80 dX0_keeps_80 rfl ?_
    refine gx_get (t := 1) (k := 19) (v := J (z4.2 0 19)) 81 cw1 (by decide) (tgs (show stc 0 = (1, 0) by decide) (by decide)) q542 same_f rfl dX0_keeps_81 ?_
    refine gx_iconst 84 dX0_keeps_84 ?_
    refine gx_iadd 85 dX0_keeps_85 ?_
    obtain ⟨s7, es7, h⟩ := bnd_e h
    refine gx_put (t := 1) (k := 19) (x := ((z4.2 0 19) + 1)) (ty := .int) 86 cw1 (by decide) (tgs (show stc 0 = (1, 0) by decide) (by decide)) (st0 (show stc 0 = (1, 0) by decide) (by decide)) (stm (show stc 0 = (1, 0) by decide) (by decide)) q542 same_f rfl (by decide +kernel) rfl rfl (congrArg J (ux_s _ _ _ _)) es7 dX0_keeps_86 ?_
    exact gx_vret 89 dX0_keeps_89 (rt h)
  refine gx_icmp_ne 6 62 dX0_keeps_6 (by decide) (fun c9 => ?_) (fun c9 => ?_)
  · replace h := if_f h c9
    refine gx_sub [0] rfl ?_
    exact hj8 _ h
  · replace h := if_t h c9
    refine gx_aload_n 9 0 dX0_keeps_9 rfl ?_
    refine gx_get (t := 1) (k := 18) (v := .ref (ad x0 176)) 10 cw1 (by decide) (tgs (show stc 0 = (1, 0) by decide) (by decide)) q541 same_f (rf_ne (nes (show stc 176 = (114, 20) by decide) (by decide))) dX0_keeps_10 ?_
    refine gx_iconst 13 dX0_keeps_13 ?_
    obtain ⟨g10, h⟩ := gd_e h
    obtain ⟨g11, h⟩ := gd_e h
    refine gx_aald (t := 114) (ty := (.object "VerbAtDusk$State")) (r := (s0 176 (i32 0))) 14 (by decide) rfl (by decide) (tgs (show stc 176 = (114, 20) by decide) (by decide)) (oks (show stc 176 = (114, 20) by decide) (by decide) g10) rfl g11 dX0_keeps_14 ?_
    obtain ⟨x1_12, ex1_12, h⟩ := bnd_e h
    refine gx_astore_nv 15 [(1, .ref (ad x0 x1_12)), (0, .ref (ad x0 0))] dX0_keeps_15 (by decide) ex1_12 rfl ?_
    refine gx_iconst 16 dX0_keeps_16 ?_
    obtain ⟨x2_13, ex2_13, h⟩ := bnd_e h
    refine gx_istore_n 17 [(2, J x2_13), (1, .ref (ad x0 x1_12)), (0, .ref (ad x0 0))] dX0_keeps_17 (by decide) ex2_13 rfl ?_
    refine gx_sub [2, 1, 0] rfl ?_
    refine wx0_keeps_L18 (fun x1_27 s28 h => ?_) FU _ _ _ h
    · refine gx_aload_n 44 0 dX0_keeps_44 rfl ?_
      refine gx_get (t := 1) (k := 18) (v := .ref (ad x0 176)) 45 cw1 (by decide) (tgs (show stc 0 = (1, 0) by decide) (by decide)) q541 same_f (rf_ne (nes (show stc 176 = (114, 20) by decide) (by decide))) dX0_keeps_45 ?_
      refine gx_bipush 48 dX0_keeps_48 (by decide) ?_
      refine gx_aload_n 50 1 dX0_keeps_50 rfl ?_
      obtain ⟨g29, h⟩ := gd_e h
      obtain ⟨g30, h⟩ := gd_e h
      obtain ⟨g31, h⟩ := gd_e h
      obtain ⟨s32, es32, h⟩ := bnd_e h
      refine gx_aastS 51 (tgs (show stc 176 = (114, 20) by decide) (by decide)) (st0 (show stc 176 = (114, 20) by decide) (by decide)) (stm (show stc 176 = (114, 20) by decide) (by decide)) (oks (show stc 176 = (114, 20) by decide) (by decide) g29) g30 es32 dX0_keeps_51 g31 ?_
      refine gx_aload_n 52 0 dX0_keeps_52 rfl ?_
      refine gx_dup 53 dX0_keeps_53 rfl ?_
      refine gx_get (t := 1) (k := 19) (v := J (s32 0 19)) 54 cw1 (by decide) (tgs (show stc 0 = (1, 0) by decide) (by decide)) q542 same_f rfl dX0_keeps_54 ?_
      refine gx_iconst 57 dX0_keeps_57 ?_
      refine gx_isub 58 dX0_keeps_58 ?_
      obtain ⟨s33, es33, h⟩ := bnd_e h
      refine gx_put (t := 1) (k := 19) (x := ((s32 0 19) - 1)) (ty := .int) 59 cw1 (by decide) (tgs (show stc 0 = (1, 0) by decide) (by decide)) (st0 (show stc 0 = (1, 0) by decide) (by decide)) (stm (show stc 0 = (1, 0) by decide) (by decide)) q542 same_f rfl (by decide +kernel) rfl rfl (congrArg J (ux_s _ _ _ _)) es33 dX0_keeps_59 ?_
      refine gx_sub [0] rfl ?_
      exact hj8 _ h
/-! VerbAtDusk.undo -/
noncomputable def x0_undo (s0 : XS) : Option (Int × XS) :=
  if i32 (s0 0 19) = 0 then
    Option.bind (x0_refuses 4 s0) fun z7 =>
    if i32 z7.1 < 0 then
      some (0, z7.2)
    else
      some (1, z7.2)
  else
    bnd (ux s0 0 19 ((s0 0 19) - 1)) fun s2 =>
    gd (ok 20 (s2 0 19)) <|
    gd (¬ (s2 176 (i32 (s2 0 19))) = -1) <|
    Option.bind (x7_copy 36 (s2 176 (i32 (s2 0 19))) s2) fun z5 =>
    gd (z5.1 = 36) <|
    some (1, z5.2)
theorem mx0_undo {x0 : Nat} {D : XD} {s0 : XS} {res : Int × XS} (h : x0_undo s0 = some res) (l : Launch) : XMet0 l yX0_undo cX0_undo 1 (some .boolean) 2 true x0 D [.ref (ad x0 0)] s0 1 res := by
  refine XMet0.ofn [(0, .ref (ad x0 0))] "VerbAtDusk" "undo" rfl rfl (plainFor_of_name (by decide)) (Nat.le_of_ble_eq_true rfl) rfl ?_
  unfold x0_undo at h
  generalize nC s0 = cN
  generalize nS s0 = sN
  refine gx_aload_n 0 0 dX0_undo_0 rfl ?_
  refine gx_get (t := 1) (k := 19) (v := J (s0 0 19)) 1 cw1 (by decide) (tgs (show stc 0 = (1, 0) by decide) (by decide)) q542 same_f rfl dX0_undo_1 ?_
  refine gx_if_ne 4 21 dX0_undo_4 (by decide) (fun c1 => ?_) (fun c1 => ?_)
  · replace h := if_f h c1
    refine gx_aload_n 21 0 dX0_undo_21 rfl ?_
    refine gx_dup 22 dX0_undo_22 rfl ?_
    refine gx_get (t := 1) (k := 19) (v := J (s0 0 19)) 23 cw1 (by decide) (tgs (show stc 0 = (1, 0) by decide) (by decide)) q542 same_f rfl dX0_undo_23 ?_
    refine gx_iconst 26 dX0_undo_26 ?_
    refine gx_isub 27 dX0_undo_27 ?_
    obtain ⟨s2, es2, h⟩ := bnd_e h
    refine gx_put (t := 1) (k := 19) (x := ((s0 0 19) - 1)) (ty := .int) 28 cw1 (by decide) (tgs (show stc 0 = (1, 0) by decide) (by decide)) (st0 (show stc 0 = (1, 0) by decide) (by decide)) (stm (show stc 0 = (1, 0) by decide) (by decide)) q542 same_f rfl (by decide +kernel) rfl rfl (congrArg J (ux_s _ _ _ _)) es2 dX0_undo_28 ?_
    refine gx_aload_n 31 0 dX0_undo_31 rfl ?_
    refine gx_get (t := 1) (k := 11) (v := .ref (ad x0 36)) 32 cw1 (by decide) (tgs (show stc 0 = (1, 0) by decide) (by decide)) q534 same_f (rf_ne (nes (show stc 36 = (8, 6) by decide) (by decide))) dX0_undo_32 ?_
    refine gx_aload_n 35 0 dX0_undo_35 rfl ?_
    refine gx_get (t := 1) (k := 18) (v := .ref (ad x0 176)) 36 cw1 (by decide) (tgs (show stc 0 = (1, 0) by decide) (by decide)) q541 same_f (rf_ne (nes (show stc 176 = (114, 20) by decide) (by decide))) dX0_undo_36 ?_
    refine gx_aload_n 39 0 dX0_undo_39 rfl ?_
    refine gx_get (t := 1) (k := 19) (v := J (s2 0 19)) 40 cw1 (by decide) (tgs (show stc 0 = (1, 0) by decide) (by decide)) q542 same_f rfl dX0_undo_40 ?_
    obtain ⟨g3, h⟩ := gd_e h
    obtain ⟨g4, h⟩ := gd_e h
    refine gx_aald (t := 114) (ty := (.object "VerbAtDusk$State")) (r := (s2 176 (i32 (s2 0 19)))) 43 (by decide) rfl (by decide) (tgs (show stc 176 = (114, 20) by decide) (by decide)) (oks (show stc 176 = (114, 20) by decide) (by decide) g3) rfl g4 dX0_undo_43 ?_
    obtain ⟨z5, ez5, h⟩ := opt_e h
    refine gx_callV (As := [.ref (ad x0 (s2 176 (i32 (s2 0 19))))]) (rest := []) (st' := [.ref (ad x0 z5.1)]) 44 1 cw8 (tgs (show stc 36 = (8, 6) by decide) (by decide)) (mx7_copy ez5 l) (lw_V q1560 q1561 q1562 q160 q1563) (by decide +kernel) (by decide) rfl rfl (Nat.le_of_ble_eq_true rfl) dX0_undo_44 rfl ?_
    obtain ⟨g6, h⟩ := gd_e h
    rw [g6]
    refine gx_pop 47 dX0_undo_47 rfl ?_
    refine gx_iconst 48 dX0_undo_48 ?_
    exact gx_zret 49 dX0_undo_49 (by decide) (rt h)
  · replace h := if_t h c1
    refine gx_aload_n 7 0 dX0_undo_7 rfl ?_
    refine gx_iconst 8 dX0_undo_8 ?_
    obtain ⟨z7, ez7, h⟩ := opt_e h
    refine gx_callV (As := [J 4]) (rest := []) (st' := [J z7.1]) 9 1 cw1 (tgs (show stc 0 = (1, 0) by decide) (by decide)) (mx0_refuses ez7 l) (lw_V q600 q602 qs1 q147 q603) (by decide +kernel) (by decide) rfl rfl (Nat.le_of_ble_eq_true rfl) dX0_undo_9 rfl ?_
    refine gx_if_lt 12 19 dX0_undo_12 (by decide) (fun c8 => ?_) (fun c8 => ?_)
    · replace h := if_t h c8
      refine gx_iconst 19 dX0_undo_19 ?_
      exact gx_zret 20 dX0_undo_20 (by decide) (rt h)
    · replace h := if_f h c8
      refine gx_iconst 15 dX0_undo_15 ?_
      refine gx_goto 16 20 dX0_undo_16 (by decide) ?_
      exact gx_zret 20 dX0_undo_20 (by decide) (rt h)
/-! VerbAtDusk.carry -/
noncomputable def x0_carry (a1 : Int) (a2 : Int) (a3 : Int) (s0 : XS) : Option (Int × XS) :=
  Option.bind (x0_isSaying a1 s0) fun z4 =>
  bnd (fun (s5 : XS) =>
      Option.bind (x0_refuses 2 s5) fun z6 =>
      if i32 z6.1 < 0 then
        some (0, z6.2)
      else
        some (1, z6.2)) fun j8 =>
  if i32 z4.1 = 0 then
    j8 z4.2
  else
    Option.bind (x0_is a2 0 9 z4.2) fun z10 =>
    if i32 z10.1 = 0 then
      j8 z10.2
    else
      Option.bind (x0_is a3 0 9 z10.2) fun z12 =>
      if i32 z12.1 = 0 then
        j8 z12.2
      else
        gd (ok 6 a1) <|
        bnd (fun (x1_15 : Int) (x2_16 : Int) (x3_17 : Int) (s18 : XS) =>
            Option.bind (x0_keeps s18) fun z19 =>
            gd (ok 6 x1_15) <|
            bnd (ux z19.2 37 (i32 x1_15) x2_16) fun s21 =>
            gd (ok 6 x1_15) <|
            bnd (ux s21 38 (i32 x1_15) x3_17) fun s23 =>
            some (1, s23)) fun j24 =>
        if i32 (z12.2 37 (i32 a1)) = i32 a2 then
          gd (ok 6 a1) <|
          if i32 (z12.2 38 (i32 a1)) = i32 a3 then
            j8 z12.2
          else
            j24 a1 a2 a3 z12.2
        else
          j24 a1 a2 a3 z12.2
theorem mx0_carry {x0 : Nat} {D : XD} {a1 : Int} {a2 : Int} {a3 : Int} {s0 : XS} {res : Int × XS} (h : x0_carry a1 a2 a3 s0 = some res) (l : Launch) : XMet0 l yX0_carry cX0_carry 4 (some .boolean) 4 true x0 D [.ref (ad x0 0), J a1, J a2, J a3] s0 1 res := by
  refine XMet0.ofn [(0, .ref (ad x0 0)), (1, J a1), (2, J a2), (3, J a3)] "VerbAtDusk" "carry" rfl rfl (plainFor_of_name (by decide)) (Nat.le_of_ble_eq_true rfl) rfl ?_
  unfold x0_carry at h
  generalize nC s0 = cN
  generalize nS s0 = sN
  refine gx_aload_n 0 0 dX0_carry_0 rfl ?_
  refine gx_iload_n 1 1 dX0_carry_1 rfl ?_
  obtain ⟨z4, ez4, h⟩ := opt_e h
  refine gx_callV (As := [J a1]) (rest := []) (st' := [J z4.1]) 2 1 cw1 (tgs (show stc 0 = (1, 0) by decide) (by decide)) (mx0_isSaying ez4 l) (lw_V q1346 q1348 qs35 q147 q1349) (by decide +kernel) (by decide) rfl rfl (Nat.le_of_ble_eq_true rfl) dX0_carry_2 rfl ?_
  obtain ⟨j8, ej8, h⟩ := bnd_e h
  have hj8 : ∀ (s5 : XS), j8 s5 = some res → GX l cX0_carry "VerbAtDusk" 4 (some .boolean) "carry" [] x0 D true 1 4 cN sN (0, res) s5 54 [(0, .ref (ad x0 0))] [] := by
    clear h
    intro s5 h
    subst ej8
    refine gx_aload_n 54 0 dX0_carry_54 rfl ?_
    refine gx_iconst 55 dX0_carry_55 ?_
    obtain ⟨z6, ez6, h⟩ := opt_e h
    refine gx_callV (As := [J 2]) (rest := []) (st' := [J z6.1]) 56 1 cw1 (tgs (show stc 0 = (1, 0) by decide) (by decide)) (mx0_refuses ez6 l) (lw_V q600 q602 qs1 q147 q603) (by decide +kernel) (by decide) rfl rfl (Nat.le_of_ble_eq_true rfl) dX0_carry_56 rfl ?_
    refine gx_if_lt 59 66 dX0_carry_59 (by decide) (fun c7 => ?_) (fun c7 => ?_)
    · replace h := if_t h c7
      refine gx_iconst 66 dX0_carry_66 ?_
      exact gx_zret 67 dX0_carry_67 (by decide) (rt h)
    · replace h := if_f h c7
      refine gx_iconst 62 dX0_carry_62 ?_
      refine gx_goto 63 67 dX0_carry_63 (by decide) ?_
      exact gx_zret 67 dX0_carry_67 (by decide) (rt h)
  refine gx_if_eq 5 54 dX0_carry_5 (by decide) (fun c9 => ?_) (fun c9 => ?_)
  · replace h := if_t h c9
    refine gx_sub [0] rfl ?_
    exact hj8 _ h
  · replace h := if_f h c9
    refine gx_iload_n 8 2 dX0_carry_8 rfl ?_
    refine gx_iconst 9 dX0_carry_9 ?_
    refine gx_bipush 10 dX0_carry_10 (by decide) ?_
    obtain ⟨z10, ez10, h⟩ := opt_e h
    refine gx_callS (As := [J a2, J 0, J 9]) (rest := []) (st' := [J z10.1]) 12 3 (mx0_is ez10 l) (lw_S q1320 q748 q147 q749) (by decide +kernel) (by decide) rfl rfl (Nat.le_of_ble_eq_true rfl) dX0_carry_12 rfl ?_
    refine gx_if_eq 15 54 dX0_carry_15 (by decide) (fun c11 => ?_) (fun c11 => ?_)
    · replace h := if_t h c11
      refine gx_sub [0] rfl ?_
      exact hj8 _ h
    · replace h := if_f h c11
      refine gx_iload_n 18 3 dX0_carry_18 rfl ?_
      refine gx_iconst 19 dX0_carry_19 ?_
      refine gx_bipush 20 dX0_carry_20 (by decide) ?_
      obtain ⟨z12, ez12, h⟩ := opt_e h
      refine gx_callS (As := [J a3, J 0, J 9]) (rest := []) (st' := [J z12.1]) 22 3 (mx0_is ez12 l) (lw_S q1320 q748 q147 q749) (by decide +kernel) (by decide) rfl rfl (Nat.le_of_ble_eq_true rfl) dX0_carry_22 rfl ?_
      refine gx_if_eq 25 54 dX0_carry_25 (by decide) (fun c13 => ?_) (fun c13 => ?_)
      · replace h := if_t h c13
        refine gx_sub [0] rfl ?_
        exact hj8 _ h
      · replace h := if_f h c13
        refine gx_aload_n 28 0 dX0_carry_28 rfl ?_
        refine gx_get (t := 1) (k := 11) (v := .ref (ad x0 36)) 29 cw1 (by decide) (tgs (show stc 0 = (1, 0) by decide) (by decide)) q534 same_f (rf_ne (nes (show stc 36 = (8, 6) by decide) (by decide))) dX0_carry_29 ?_
        refine gx_getN (t := 8) (k := 3) (v := .ref (ad x0 37)) 32 cw8 (by decide) (tgs (show stc 36 = (8, 6) by decide) (by decide)) q481 same_f (rf_ne (nes (show stc 37 = (101, 6) by decide) (by decide))) dX0_carry_32 ?_
        refine gx_iload_n 35 1 dX0_carry_35 rfl ?_
        obtain ⟨g14, h⟩ := gd_e h
        refine gx_iald 36 (tgs (show stc 37 = (101, 6) by decide) (by decide)) (oks (show stc 37 = (101, 6) by decide) (by decide) g14) dX0_carry_36 ?_
        refine gx_iload_n 37 2 dX0_carry_37 rfl ?_
        obtain ⟨j24, ej24, h⟩ := bnd_e h
        have hj24 : ∀ (x1_15 : Int) (x2_16 : Int) (x3_17 : Int) (s18 : XS), j24 x1_15 x2_16 x3_17 s18 = some res → GX l cX0_carry "VerbAtDusk" 4 (some .boolean) "carry" [] x0 D true 1 4 cN sN (0, res) s18 68 [(0, .ref (ad x0 0)), (1, J x1_15), (2, J x2_16), (3, J x3_17)] [] := by
          clear h
          intro x1_15 x2_16 x3_17 s18 h
          subst ej24
          refine gx_aload_n 68 0 dX0_carry_68 rfl ?_
          obtain ⟨z19, ez19, h⟩ := opt_e h
          refine gx_callV (As := []) (rest := []) (st' := []) 69 0 cw1 (tgs (show stc 0 = (1, 0) by decide) (by decide)) (mx0_keeps ez19 l) (lw_V q1631 q1633 qs50 q147 q1634) (by decide +kernel) (by decide) rfl rfl (Nat.le_of_ble_eq_true rfl) dX0_carry_69 rfl ?_
          refine gx_aload_n 72 0 dX0_carry_72 rfl ?_
          refine gx_get (t := 1) (k := 11) (v := .ref (ad x0 36)) 73 cw1 (by decide) (tgs (show stc 0 = (1, 0) by decide) (by decide)) q534 same_f (rf_ne (nes (show stc 36 = (8, 6) by decide) (by decide))) dX0_carry_73 ?_
          refine gx_getN (t := 8) (k := 3) (v := .ref (ad x0 37)) 76 cw8 (by decide) (tgs (show stc 36 = (8, 6) by decide) (by decide)) q481 same_f (rf_ne (nes (show stc 37 = (101, 6) by decide) (by decide))) dX0_carry_76 ?_
          refine gx_iload_n 79 1 dX0_carry_79 rfl ?_
          refine gx_iload_n 80 2 dX0_carry_80 rfl ?_
          obtain ⟨g20, h⟩ := gd_e h
          obtain ⟨s21, es21, h⟩ := bnd_e h
          refine gx_iast 81 (tgs (show stc 37 = (101, 6) by decide) (by decide)) (st0 (show stc 37 = (101, 6) by decide) (by decide)) (stm (show stc 37 = (101, 6) by decide) (by decide)) (oks (show stc 37 = (101, 6) by decide) (by decide) g20) es21 dX0_carry_81 ?_
          refine gx_aload_n 82 0 dX0_carry_82 rfl ?_
          refine gx_get (t := 1) (k := 11) (v := .ref (ad x0 36)) 83 cw1 (by decide) (tgs (show stc 0 = (1, 0) by decide) (by decide)) q534 same_f (rf_ne (nes (show stc 36 = (8, 6) by decide) (by decide))) dX0_carry_83 ?_
          refine gx_getN (t := 8) (k := 4) (v := .ref (ad x0 38)) 86 cw8 (by decide) (tgs (show stc 36 = (8, 6) by decide) (by decide)) q484 same_f (rf_ne (nes (show stc 38 = (101, 6) by decide) (by decide))) dX0_carry_86 ?_
          refine gx_iload_n 89 1 dX0_carry_89 rfl ?_
          refine gx_iload_n 90 3 dX0_carry_90 rfl ?_
          obtain ⟨g22, h⟩ := gd_e h
          obtain ⟨s23, es23, h⟩ := bnd_e h
          refine gx_iast 91 (tgs (show stc 38 = (101, 6) by decide) (by decide)) (st0 (show stc 38 = (101, 6) by decide) (by decide)) (stm (show stc 38 = (101, 6) by decide) (by decide)) (oks (show stc 38 = (101, 6) by decide) (by decide) g22) es23 dX0_carry_91 ?_
          refine gx_iconst 92 dX0_carry_92 ?_
          exact gx_zret 93 dX0_carry_93 (by decide) (rt h)
        refine gx_icmp_ne 38 68 dX0_carry_38 (by decide) (fun c25 => ?_) (fun c25 => ?_)
        · replace h := if_f h c25
          refine gx_sub [0, 1, 2, 3] rfl ?_
          exact hj24 _ _ _ _ h
        · replace h := if_t h c25
          refine gx_aload_n 41 0 dX0_carry_41 rfl ?_
          refine gx_get (t := 1) (k := 11) (v := .ref (ad x0 36)) 42 cw1 (by decide) (tgs (show stc 0 = (1, 0) by decide) (by decide)) q534 same_f (rf_ne (nes (show stc 36 = (8, 6) by decide) (by decide))) dX0_carry_42 ?_
          refine gx_getN (t := 8) (k := 4) (v := .ref (ad x0 38)) 45 cw8 (by decide) (tgs (show stc 36 = (8, 6) by decide) (by decide)) q484 same_f (rf_ne (nes (show stc 38 = (101, 6) by decide) (by decide))) dX0_carry_45 ?_
          refine gx_iload_n 48 1 dX0_carry_48 rfl ?_
          obtain ⟨g26, h⟩ := gd_e h
          refine gx_iald 49 (tgs (show stc 38 = (101, 6) by decide) (by decide)) (oks (show stc 38 = (101, 6) by decide) (by decide) g26) dX0_carry_49 ?_
          refine gx_iload_n 50 3 dX0_carry_50 rfl ?_
          refine gx_icmp_ne 51 68 dX0_carry_51 (by decide) (fun c27 => ?_) (fun c27 => ?_)
          · replace h := if_f h c27
            refine gx_sub [0, 1, 2, 3] rfl ?_
            exact hj24 _ _ _ _ h
          · replace h := if_t h c27
            refine gx_sub [0] rfl ?_
            exact hj8 _ h
/-! VerbAtDusk.retell -/
noncomputable def x0_retell (a1 : Int) (a2 : Int) (s0 : XS) : Option (Int × XS) :=
  Option.bind (x0_isSaying a1 s0) fun z3 =>
  bnd (fun (s4 : XS) =>
      Option.bind (x0_refuses 2 s4) fun z5 =>
      if i32 z5.1 < 0 then
        some (0, z5.2)
      else
        some (1, z5.2)) fun j7 =>
  if i32 z3.1 = 0 then
    j7 z3.2
  else
    Option.bind (x0_is a2 0 9 z3.2) fun z9 =>
    if i32 z9.1 = 0 then
      j7 z9.2
    else
      gd (ok 6 a1) <|
      if i32 (z9.2 39 (i32 a1)) = i32 a2 then
        j7 z9.2
      else
        Option.bind (x0_keeps z9.2) fun z13 =>
        gd (ok 6 a1) <|
        bnd (ux z13.2 39 (i32 a1) a2) fun s15 =>
        some (1, s15)
theorem mx0_retell {x0 : Nat} {D : XD} {a1 : Int} {a2 : Int} {s0 : XS} {res : Int × XS} (h : x0_retell a1 a2 s0 = some res) (l : Launch) : XMet0 l yX0_retell cX0_retell 3 (some .boolean) 4 true x0 D [.ref (ad x0 0), J a1, J a2] s0 1 res := by
  refine XMet0.ofn [(0, .ref (ad x0 0)), (1, J a1), (2, J a2)] "VerbAtDusk" "retell" rfl rfl (plainFor_of_name (by decide)) (Nat.le_of_ble_eq_true rfl) rfl ?_
  unfold x0_retell at h
  generalize nC s0 = cN
  generalize nS s0 = sN
  refine gx_aload_n 0 0 dX0_retell_0 rfl ?_
  refine gx_iload_n 1 1 dX0_retell_1 rfl ?_
  obtain ⟨z3, ez3, h⟩ := opt_e h
  refine gx_callV (As := [J a1]) (rest := []) (st' := [J z3.1]) 2 1 cw1 (tgs (show stc 0 = (1, 0) by decide) (by decide)) (mx0_isSaying ez3 l) (lw_V q1346 q1348 qs35 q147 q1349) (by decide +kernel) (by decide) rfl rfl (Nat.le_of_ble_eq_true rfl) dX0_retell_2 rfl ?_
  obtain ⟨j7, ej7, h⟩ := bnd_e h
  have hj7 : ∀ (s4 : XS), j7 s4 = some res → GX l cX0_retell "VerbAtDusk" 3 (some .boolean) "retell" [] x0 D true 1 4 cN sN (0, res) s4 31 [(0, .ref (ad x0 0))] [] := by
    clear h
    intro s4 h
    subst ej7
    refine gx_aload_n 31 0 dX0_retell_31 rfl ?_
    refine gx_iconst 32 dX0_retell_32 ?_
    obtain ⟨z5, ez5, h⟩ := opt_e h
    refine gx_callV (As := [J 2]) (rest := []) (st' := [J z5.1]) 33 1 cw1 (tgs (show stc 0 = (1, 0) by decide) (by decide)) (mx0_refuses ez5 l) (lw_V q600 q602 qs1 q147 q603) (by decide +kernel) (by decide) rfl rfl (Nat.le_of_ble_eq_true rfl) dX0_retell_33 rfl ?_
    refine gx_if_lt 36 43 dX0_retell_36 (by decide) (fun c6 => ?_) (fun c6 => ?_)
    · replace h := if_t h c6
      refine gx_iconst 43 dX0_retell_43 ?_
      exact gx_zret 44 dX0_retell_44 (by decide) (rt h)
    · replace h := if_f h c6
      refine gx_iconst 39 dX0_retell_39 ?_
      refine gx_goto 40 44 dX0_retell_40 (by decide) ?_
      exact gx_zret 44 dX0_retell_44 (by decide) (rt h)
  refine gx_if_eq 5 31 dX0_retell_5 (by decide) (fun c8 => ?_) (fun c8 => ?_)
  · replace h := if_t h c8
    refine gx_sub [0] rfl ?_
    exact hj7 _ h
  · replace h := if_f h c8
    refine gx_iload_n 8 2 dX0_retell_8 rfl ?_
    refine gx_iconst 9 dX0_retell_9 ?_
    refine gx_bipush 10 dX0_retell_10 (by decide) ?_
    obtain ⟨z9, ez9, h⟩ := opt_e h
    refine gx_callS (As := [J a2, J 0, J 9]) (rest := []) (st' := [J z9.1]) 12 3 (mx0_is ez9 l) (lw_S q1320 q748 q147 q749) (by decide +kernel) (by decide) rfl rfl (Nat.le_of_ble_eq_true rfl) dX0_retell_12 rfl ?_
    refine gx_if_eq 15 31 dX0_retell_15 (by decide) (fun c10 => ?_) (fun c10 => ?_)
    · replace h := if_t h c10
      refine gx_sub [0] rfl ?_
      exact hj7 _ h
    · replace h := if_f h c10
      refine gx_aload_n 18 0 dX0_retell_18 rfl ?_
      refine gx_get (t := 1) (k := 11) (v := .ref (ad x0 36)) 19 cw1 (by decide) (tgs (show stc 0 = (1, 0) by decide) (by decide)) q534 same_f (rf_ne (nes (show stc 36 = (8, 6) by decide) (by decide))) dX0_retell_19 ?_
      refine gx_getN (t := 8) (k := 5) (v := .ref (ad x0 39)) 22 cw8 (by decide) (tgs (show stc 36 = (8, 6) by decide) (by decide)) q486 same_f (rf_ne (nes (show stc 39 = (101, 6) by decide) (by decide))) dX0_retell_22 ?_
      refine gx_iload_n 25 1 dX0_retell_25 rfl ?_
      obtain ⟨g11, h⟩ := gd_e h
      refine gx_iald 26 (tgs (show stc 39 = (101, 6) by decide) (by decide)) (oks (show stc 39 = (101, 6) by decide) (by decide) g11) dX0_retell_26 ?_
      refine gx_iload_n 27 2 dX0_retell_27 rfl ?_
      refine gx_icmp_ne 28 45 dX0_retell_28 (by decide) (fun c12 => ?_) (fun c12 => ?_)
      · replace h := if_f h c12
        refine gx_aload_n 45 0 dX0_retell_45 rfl ?_
        obtain ⟨z13, ez13, h⟩ := opt_e h
        refine gx_callV (As := []) (rest := []) (st' := []) 46 0 cw1 (tgs (show stc 0 = (1, 0) by decide) (by decide)) (mx0_keeps ez13 l) (lw_V q1631 q1633 qs50 q147 q1634) (by decide +kernel) (by decide) rfl rfl (Nat.le_of_ble_eq_true rfl) dX0_retell_46 rfl ?_
        refine gx_aload_n 49 0 dX0_retell_49 rfl ?_
        refine gx_get (t := 1) (k := 11) (v := .ref (ad x0 36)) 50 cw1 (by decide) (tgs (show stc 0 = (1, 0) by decide) (by decide)) q534 same_f (rf_ne (nes (show stc 36 = (8, 6) by decide) (by decide))) dX0_retell_50 ?_
        refine gx_getN (t := 8) (k := 5) (v := .ref (ad x0 39)) 53 cw8 (by decide) (tgs (show stc 36 = (8, 6) by decide) (by decide)) q486 same_f (rf_ne (nes (show stc 39 = (101, 6) by decide) (by decide))) dX0_retell_53 ?_
        refine gx_iload_n 56 1 dX0_retell_56 rfl ?_
        refine gx_iload_n 57 2 dX0_retell_57 rfl ?_
        obtain ⟨g14, h⟩ := gd_e h
        obtain ⟨s15, es15, h⟩ := bnd_e h
        refine gx_iast 58 (tgs (show stc 39 = (101, 6) by decide) (by decide)) (st0 (show stc 39 = (101, 6) by decide) (by decide)) (stm (show stc 39 = (101, 6) by decide) (by decide)) (oks (show stc 39 = (101, 6) by decide) (by decide) g14) es15 dX0_retell_58 ?_
        refine gx_iconst 59 dX0_retell_59 ?_
        exact gx_zret 60 dX0_retell_60 (by decide) (rt h)
      · replace h := if_t h c12
        refine gx_sub [0] rfl ?_
        exact hj7 _ h
/-! VerbAtDusk.lend -/
noncomputable def x0_lend (a1 : Int) (a2 : Int) (s0 : XS) : Option (Int × XS) :=
  Option.bind (x0_isVerb a1 s0) fun z3 =>
  bnd (fun (s4 : XS) =>
      Option.bind (x0_refuses 2 s4) fun z5 =>
      if i32 z5.1 < 0 then
        some (0, z5.2)
      else
        some (1, z5.2)) fun j7 =>
  if i32 z3.1 = 0 then
    j7 z3.2
  else
    Option.bind (x0_is a2 0 1 z3.2) fun z9 =>
    if i32 z9.1 = 0 then
      j7 z9.2
    else
      Option.bind (x0_has (z9.2 36 1) a1 z9.2) fun z11 =>
      bnd (fun (x1_12 : Int) (w13 : Int) (w14 : Int) (s15 : XS) =>
          if i32 w14 = i32 w13 then
            j7 s15
          else
            Option.bind (x0_keeps s15) fun z17 =>
            bnd (ux z17.2 36 1 (ixor (z17.2 36 1) (ishl 1 x1_12))) fun s18 =>
            some (1, s18)) fun j19 =>
      if i32 a2 = i32 1 then
        j19 a1 1 z11.1 z11.2
      else
        j19 a1 0 z11.1 z11.2
theorem mx0_lend {x0 : Nat} {D : XD} {a1 : Int} {a2 : Int} {s0 : XS} {res : Int × XS} (h : x0_lend a1 a2 s0 = some res) (l : Launch) : XMet0 l yX0_lend cX0_lend 3 (some .boolean) 4 true x0 D [.ref (ad x0 0), J a1, J a2] s0 1 res := by
  refine XMet0.ofn [(0, .ref (ad x0 0)), (1, J a1), (2, J a2)] "VerbAtDusk" "lend" rfl rfl (plainFor_of_name (by decide)) (Nat.le_of_ble_eq_true rfl) rfl ?_
  unfold x0_lend at h
  generalize nC s0 = cN
  generalize nS s0 = sN
  refine gx_aload_n 0 0 dX0_lend_0 rfl ?_
  refine gx_iload_n 1 1 dX0_lend_1 rfl ?_
  obtain ⟨z3, ez3, h⟩ := opt_e h
  refine gx_callV (As := [J a1]) (rest := []) (st' := [J z3.1]) 2 1 cw1 (tgs (show stc 0 = (1, 0) by decide) (by decide)) (mx0_isVerb ez3 l) (lw_V q1493 q1495 qs41 q147 q1496) (by decide +kernel) (by decide) rfl rfl (Nat.le_of_ble_eq_true rfl) dX0_lend_2 rfl ?_
  obtain ⟨j7, ej7, h⟩ := bnd_e h
  have hj7 : ∀ (s4 : XS), j7 s4 = some res → GX l cX0_lend "VerbAtDusk" 3 (some .boolean) "lend" [] x0 D true 1 4 cN sN (0, res) s4 41 [(0, .ref (ad x0 0))] [] := by
    clear h
    intro s4 h
    subst ej7
    refine gx_aload_n 41 0 dX0_lend_41 rfl ?_
    refine gx_iconst 42 dX0_lend_42 ?_
    obtain ⟨z5, ez5, h⟩ := opt_e h
    refine gx_callV (As := [J 2]) (rest := []) (st' := [J z5.1]) 43 1 cw1 (tgs (show stc 0 = (1, 0) by decide) (by decide)) (mx0_refuses ez5 l) (lw_V q600 q602 qs1 q147 q603) (by decide +kernel) (by decide) rfl rfl (Nat.le_of_ble_eq_true rfl) dX0_lend_43 rfl ?_
    refine gx_if_lt 46 53 dX0_lend_46 (by decide) (fun c6 => ?_) (fun c6 => ?_)
    · replace h := if_t h c6
      refine gx_iconst 53 dX0_lend_53 ?_
      exact gx_zret 54 dX0_lend_54 (by decide) (rt h)
    · replace h := if_f h c6
      refine gx_iconst 49 dX0_lend_49 ?_
      refine gx_goto 50 54 dX0_lend_50 (by decide) ?_
      exact gx_zret 54 dX0_lend_54 (by decide) (rt h)
  refine gx_if_eq 5 41 dX0_lend_5 (by decide) (fun c8 => ?_) (fun c8 => ?_)
  · replace h := if_t h c8
    refine gx_sub [0] rfl ?_
    exact hj7 _ h
  · replace h := if_f h c8
    refine gx_iload_n 8 2 dX0_lend_8 rfl ?_
    refine gx_iconst 9 dX0_lend_9 ?_
    refine gx_iconst 10 dX0_lend_10 ?_
    obtain ⟨z9, ez9, h⟩ := opt_e h
    refine gx_callS (As := [J a2, J 0, J 1]) (rest := []) (st' := [J z9.1]) 11 3 (mx0_is ez9 l) (lw_S q1320 q748 q147 q749) (by decide +kernel) (by decide) rfl rfl (Nat.le_of_ble_eq_true rfl) dX0_lend_11 rfl ?_
    refine gx_if_eq 14 41 dX0_lend_14 (by decide) (fun c10 => ?_) (fun c10 => ?_)
    · replace h := if_t h c10
      refine gx_sub [0] rfl ?_
      exact hj7 _ h
    · replace h := if_f h c10
      refine gx_aload_n 17 0 dX0_lend_17 rfl ?_
      refine gx_get (t := 1) (k := 11) (v := .ref (ad x0 36)) 18 cw1 (by decide) (tgs (show stc 0 = (1, 0) by decide) (by decide)) q534 same_f (rf_ne (nes (show stc 36 = (8, 6) by decide) (by decide))) dX0_lend_18 ?_
      refine gx_getN (t := 8) (k := 1) (v := J (z9.2 36 1)) 21 cw8 (by decide) (tgs (show stc 36 = (8, 6) by decide) (by decide)) q476 same_f rfl dX0_lend_21 ?_
      refine gx_iload_n 24 1 dX0_lend_24 rfl ?_
      obtain ⟨z11, ez11, h⟩ := opt_e h
      refine gx_callS (As := [J (z9.2 36 1), J a1]) (rest := []) (st' := [J z11.1]) 25 2 (mx0_has ez11 l) (lw_S q1488 q1010 q147 q1011) (by decide +kernel) (by decide) rfl rfl (Nat.le_of_ble_eq_true rfl) dX0_lend_25 rfl ?_
      refine gx_iload_n 28 2 dX0_lend_28 rfl ?_
      refine gx_iconst 29 dX0_lend_29 ?_
      obtain ⟨j19, ej19, h⟩ := bnd_e h
      have hj19 : ∀ (x1_12 : Int) (w13 : Int) (w14 : Int) (s15 : XS), j19 x1_12 w13 w14 s15 = some res → GX l cX0_lend "VerbAtDusk" 3 (some .boolean) "lend" [] x0 D true 1 4 cN sN (0, res) s15 38 [(0, .ref (ad x0 0)), (1, J x1_12)] [J w13, J w14] := by
        clear h
        intro x1_12 w13 w14 s15 h
        subst ej19
        refine gx_icmp_ne 38 55 dX0_lend_38 (by decide) (fun c16 => ?_) (fun c16 => ?_)
        · replace h := if_f h c16
          refine gx_aload_n 55 0 dX0_lend_55 rfl ?_
          obtain ⟨z17, ez17, h⟩ := opt_e h
          refine gx_callV (As := []) (rest := []) (st' := []) 56 0 cw1 (tgs (show stc 0 = (1, 0) by decide) (by decide)) (mx0_keeps ez17 l) (lw_V q1631 q1633 qs50 q147 q1634) (by decide +kernel) (by decide) rfl rfl (Nat.le_of_ble_eq_true rfl) dX0_lend_56 rfl ?_
          refine gx_aload_n 59 0 dX0_lend_59 rfl ?_
          refine gx_get (t := 1) (k := 11) (v := .ref (ad x0 36)) 60 cw1 (by decide) (tgs (show stc 0 = (1, 0) by decide) (by decide)) q534 same_f (rf_ne (nes (show stc 36 = (8, 6) by decide) (by decide))) dX0_lend_60 ?_
          refine gx_dup 63 dX0_lend_63 rfl ?_
          refine gx_getN (t := 8) (k := 1) (v := J (z17.2 36 1)) 64 cw8 (by decide) (tgs (show stc 36 = (8, 6) by decide) (by decide)) q476 same_f rfl dX0_lend_64 ?_
          refine gx_iconst 67 dX0_lend_67 ?_
          refine gx_iload_n 68 1 dX0_lend_68 rfl ?_
          refine gx_ishl 69 dX0_lend_69 ?_
          refine gx_ixor 70 dX0_lend_70 ?_
          obtain ⟨s18, es18, h⟩ := bnd_e h
          refine gx_putN (t := 8) (k := 1) (x := (ixor (z17.2 36 1) (ishl 1 x1_12))) (ty := .int) 71 cw8 (by decide) (tgs (show stc 36 = (8, 6) by decide) (by decide)) (st0 (show stc 36 = (8, 6) by decide) (by decide)) (stm (show stc 36 = (8, 6) by decide) (by decide)) q476 same_f rfl (by decide +kernel) rfl rfl (congrArg J (ux_s _ _ _ _)) es18 dX0_lend_71 ?_
          refine gx_iconst 74 dX0_lend_74 ?_
          exact gx_zret 75 dX0_lend_75 (by decide) (rt h)
        · replace h := if_t h c16
          refine gx_sub [0] rfl ?_
          exact hj7 _ h
      refine gx_icmp_ne 30 37 dX0_lend_30 (by decide) (fun c20 => ?_) (fun c20 => ?_)
      · replace h := if_f h c20
        refine gx_iconst 37 dX0_lend_37 ?_
        refine gx_sub [0, 1] rfl ?_
        exact hj19 _ _ _ _ h
      · replace h := if_t h c20
        refine gx_iconst 33 dX0_lend_33 ?_
        refine gx_goto 34 38 dX0_lend_34 (by decide) ?_
        refine gx_sub [0, 1] rfl ?_
        exact hj19 _ _ _ _ h
/-! VerbAtDusk.days -/
noncomputable def x0_days_L25 (k46 : Int → XS → Option (Int × XS)) : Nat → Int → Int → Int → XS → Option (Int × XS)
  | 0, _, _, _, _ => none
  | n + 1, x1_7, x2_8, x3_9, s10 =>
    if i32 x1_7 ≤ i32 x3_9 then
      k46 x2_8 s10
    else
      Option.bind (x7_passes 36 s10) fun z14 =>
      bnd (x2_8 + z14.1) fun x2_15 =>
      bnd (x3_9 + 1) fun x3_16 =>
      x0_days_L25 k46 n x1_7 x2_15 x3_16 z14.2
noncomputable def x0_days (a1 : Int) (s0 : XS) : Option (Int × XS) :=
  Option.bind (x0_isAhead a1 1 100 s0) fun z2 =>
  if i32 z2.1 = 0 then
    Option.bind (x0_refuses 3 z2.2) fun z19 =>
    some (z19.1, z19.2)
  else
    Option.bind (x0_keeps z2.2) fun z4 =>
    bnd 0 fun x2_5 =>
    bnd 0 fun x3_6 =>
    x0_days_L25
      (fun (x2_17 : Int) (s18 : XS) =>
        some (x2_17, s18))
      FU a1 x2_5 x3_6 z4.2
theorem wx0_days_L25 {l : Launch} {x0 : Nat} {D : XD} {cN sN : Nat} {res : Int × XS} {k46 : Int → XS → Option (Int × XS)} (hk46 : ∀ (x2_11 : Int) (s12 : XS), k46 x2_11 s12 = some res → GX l cX0_days "VerbAtDusk" 4 (some .int) "days" [] x0 D true 1 712 cN sN (0, res) s12 46 [(2, J x2_11)] []) : ∀ (n : Nat) (x1_7 : Int) (x2_8 : Int) (x3_9 : Int) (s10 : XS), x0_days_L25 k46 n x1_7 x2_8 x3_9 s10 = some res → GX l cX0_days "VerbAtDusk" 4 (some .int) "days" [] x0 D true 1 712 cN sN (0, res) s10 25 [(0, .ref (ad x0 0)), (1, J x1_7), (2, J x2_8), (3, J x3_9)] [] := by
  intro n
  induction n with
  | zero =>
    intro x1_7 x2_8 x3_9 s10 h
    cases h
  | succ n ih =>
    intro x1_7 x2_8 x3_9 s10 h
    rw [x0_days_L25] at h
    refine gx_iload_n 25 3 dX0_days_25 rfl ?_
    refine gx_iload_n 26 1 dX0_days_26 rfl ?_
    refine gx_icmp_ge 27 46 dX0_days_27 (by decide) (fun c13 => ?_) (fun c13 => ?_)
    · replace h := if_t h c13
      refine gx_sub [2] rfl ?_
      exact hk46 _ _ h
    · replace h := if_f h c13
      refine gx_iload_n 30 2 dX0_days_30 rfl ?_
      refine gx_aload_n 31 0 dX0_days_31 rfl ?_
      refine gx_get (t := 1) (k := 11) (v := .ref (ad x0 36)) 32 cw1 (by decide) (tgs (show stc 0 = (1, 0) by decide) (by decide)) q534 same_f (rf_ne (nes (show stc 36 = (8, 6) by decide) (by decide))) dX0_days_32 ?_
      obtain ⟨z14, ez14, h⟩ := opt_e h
      refine gx_callV (As := []) (rest := [J x2_8]) (st' := [J z14.1, J x2_8]) 35 0 cw8 (tgs (show stc 36 = (8, 6) by decide) (by decide)) (mx7_passes ez14 l) (lw_V q1572 q1573 q1574 q160 q1575) (by decide +kernel) (by decide) rfl rfl (Nat.le_of_ble_eq_true rfl) dX0_days_35 rfl ?_
      refine gx_iadd 38 dX0_days_38 ?_
      obtain ⟨x2_15, ex2_15, h⟩ := bnd_e h
      refine gx_istore_n 39 [(2, J x2_15), (0, .ref (ad x0 0)), (1, J x1_7), (3, J x3_9)] dX0_days_39 (by decide) ex2_15 rfl ?_
      obtain ⟨x3_16, ex3_16, h⟩ := bnd_e h
      refine gx_iinc 40 3 [(3, J x3_16), (2, J x2_15), (0, .ref (ad x0 0)), (1, J x1_7)] dX0_days_40 rfl ex3_16 (by decide) rfl ?_
      refine gx_goto 43 25 dX0_days_43 (by decide) ?_
      refine gx_sub [2, 3, 1, 0] rfl ?_
      exact ih _ _ _ _ h
theorem mx0_days {x0 : Nat} {D : XD} {a1 : Int} {s0 : XS} {res : Int × XS} (h : x0_days a1 s0 = some res) (l : Launch) : XMet0 l yX0_days cX0_days 4 (some .int) 712 true x0 D [.ref (ad x0 0), J a1] s0 1 res := by
  refine XMet0.ofn [(0, .ref (ad x0 0)), (1, J a1)] "VerbAtDusk" "days" rfl rfl (plainFor_of_name (by decide)) (Nat.le_of_ble_eq_true rfl) rfl ?_
  unfold x0_days at h
  generalize nC s0 = cN
  generalize nS s0 = sN
  refine gx_aload_n 0 0 dX0_days_0 rfl ?_
  refine gx_iload_n 1 1 dX0_days_1 rfl ?_
  refine gx_iconst 2 dX0_days_2 ?_
  refine gx_bipush 3 dX0_days_3 (by decide) ?_
  obtain ⟨z2, ez2, h⟩ := opt_e h
  refine gx_callV (As := [J a1, J 1, J 100]) (rest := []) (st' := [J z2.1]) 5 3 cw1 (tgs (show stc 0 = (1, 0) by decide) (by decide)) (mx0_isAhead ez2 l) (lw_V q1568 q1570 qs45 q147 q1571) (by decide +kernel) (by decide) rfl rfl (Nat.le_of_ble_eq_true rfl) dX0_days_5 rfl ?_
  refine gx_if_ne 8 17 dX0_days_8 (by decide) (fun c3 => ?_) (fun c3 => ?_)
  · replace h := if_f h c3
    refine gx_aload_n 17 0 dX0_days_17 rfl ?_
    obtain ⟨z4, ez4, h⟩ := opt_e h
    refine gx_callV (As := []) (rest := []) (st' := []) 18 0 cw1 (tgs (show stc 0 = (1, 0) by decide) (by decide)) (mx0_keeps ez4 l) (lw_V q1631 q1633 qs50 q147 q1634) (by decide +kernel) (by decide) rfl rfl (Nat.le_of_ble_eq_true rfl) dX0_days_18 rfl ?_
    refine gx_iconst 21 dX0_days_21 ?_
    obtain ⟨x2_5, ex2_5, h⟩ := bnd_e h
    refine gx_istore_n 22 [(2, J x2_5), (0, .ref (ad x0 0)), (1, J a1)] dX0_days_22 (by decide) ex2_5 rfl ?_
    refine gx_iconst 23 dX0_days_23 ?_
    obtain ⟨x3_6, ex3_6, h⟩ := bnd_e h
    refine gx_istore_n 24 [(3, J x3_6), (2, J x2_5), (0, .ref (ad x0 0)), (1, J a1)] dX0_days_24 (by decide) ex3_6 rfl ?_
    refine gx_sub [2, 3, 1, 0] rfl ?_
    refine wx0_days_L25 (fun x2_17 s18 h => ?_) FU _ _ _ _ h
    · refine gx_iload_n 46 0 dX0_days_46 rfl ?_
      exact gx_iret 47 dX0_days_47 (rt h)
  · replace h := if_t h c3
    refine gx_aload_n 11 0 dX0_days_11 rfl ?_
    refine gx_iconst 12 dX0_days_12 ?_
    obtain ⟨z19, ez19, h⟩ := opt_e h
    refine gx_callV (As := [J 3]) (rest := []) (st' := [J z19.1]) 13 1 cw1 (tgs (show stc 0 = (1, 0) by decide) (by decide)) (mx0_refuses ez19 l) (lw_V q600 q602 qs1 q147 q603) (by decide +kernel) (by decide) rfl rfl (Nat.le_of_ble_eq_true rfl) dX0_days_13 rfl ?_
    exact gx_iret 16 dX0_days_16 (rt h)
/-! VerbAtDusk.chance -/
noncomputable def x0_chance_L25 (k73 : Int → XS → Option (Int × XS)) : Nat → Int → Int → Int → XS → Option (Int × XS)
  | 0, _, _, _, _ => none
  | n + 1, x1_7, x2_8, x3_9, s10 =>
    if i32 x1_7 ≤ i32 x3_9 then
      k73 x2_8 s10
    else
      Option.bind (x0_draw 100 s10) fun z14 =>
      gd (¬ (z14.2 0 0) = -1) <|
      gd (tg true z14.2 (z14.2 0 0) = 2) <|
      bnd (fun (x1_17 : Int) (x2_18 : Int) (x3_19 : Int) (s20 : XS) =>
          bnd (x3_19 + 1) fun x3_21 =>
          x0_chance_L25 k73 n x1_17 x2_18 x3_21 s20) fun j22 =>
      if i32 (z14.2 (z14.2 0 0) 3) ≤ i32 z14.1 then
        Option.bind (x7_passes 36 z14.2) fun z24 =>
        j22 x1_7 x2_8 x3_9 z24.2
      else
        Option.bind (x7_spills 36 z14.2) fun z25 =>
        bnd (x2_8 + 1) fun x2_26 =>
        j22 x1_7 x2_26 x3_9 z25.2
noncomputable def x0_chance (a1 : Int) (s0 : XS) : Option (Int × XS) :=
  Option.bind (x0_isAhead a1 1 100 s0) fun z2 =>
  if i32 z2.1 = 0 then
    Option.bind (x0_refuses 3 z2.2) fun z29 =>
    some (z29.1, z29.2)
  else
    Option.bind (x0_keeps z2.2) fun z4 =>
    bnd 0 fun x2_5 =>
    bnd 0 fun x3_6 =>
    x0_chance_L25
      (fun (x2_27 : Int) (s28 : XS) =>
        some (x2_27, s28))
      FU a1 x2_5 x3_6 z4.2
theorem wx0_chance_L25 {l : Launch} {x0 : Nat} {D : XD} {cN sN : Nat} {res : Int × XS} {k73 : Int → XS → Option (Int × XS)} (hk73 : ∀ (x2_11 : Int) (s12 : XS), k73 x2_11 s12 = some res → GX l cX0_chance "VerbAtDusk" 4 (some .int) "chance" [] x0 D true 1 712 cN sN (0, res) s12 73 [(2, J x2_11)] []) : ∀ (n : Nat) (x1_7 : Int) (x2_8 : Int) (x3_9 : Int) (s10 : XS), x0_chance_L25 k73 n x1_7 x2_8 x3_9 s10 = some res → GX l cX0_chance "VerbAtDusk" 4 (some .int) "chance" [] x0 D true 1 712 cN sN (0, res) s10 25 [(0, .ref (ad x0 0)), (1, J x1_7), (2, J x2_8), (3, J x3_9)] [] := by
  intro n
  induction n with
  | zero =>
    intro x1_7 x2_8 x3_9 s10 h
    cases h
  | succ n ih =>
    intro x1_7 x2_8 x3_9 s10 h
    rw [x0_chance_L25] at h
    refine gx_iload_n 25 3 dX0_chance_25 rfl ?_
    refine gx_iload_n 26 1 dX0_chance_26 rfl ?_
    refine gx_icmp_ge 27 73 dX0_chance_27 (by decide) (fun c13 => ?_) (fun c13 => ?_)
    · replace h := if_t h c13
      refine gx_sub [2] rfl ?_
      exact hk73 _ _ h
    · replace h := if_f h c13
      refine gx_aload_n 30 0 dX0_chance_30 rfl ?_
      refine gx_bipush 31 dX0_chance_31 (by decide) ?_
      obtain ⟨z14, ez14, h⟩ := opt_e h
      refine gx_callV (As := [J 100]) (rest := []) (st' := [J z14.1]) 33 1 cw1 (tgs (show stc 0 = (1, 0) by decide) (by decide)) (mx0_draw ez14 l) (lw_V q1651 q1653 qs51 q147 q1654) (by decide +kernel) (by decide) rfl rfl (Nat.le_of_ble_eq_true rfl) dX0_chance_33 rfl ?_
      refine gx_aload_n 36 0 dX0_chance_36 rfl ?_
      obtain ⟨g15, h⟩ := gd_e h
      refine gx_get (t := 1) (k := 0) (v := .ref (ad x0 (z14.2 0 0))) 37 cw1 (by decide) (tgs (show stc 0 = (1, 0) by decide) (by decide)) q519 same_f (rf_ne g15) dX0_chance_37 ?_
      obtain ⟨g16, h⟩ := gd_e h
      refine gx_getN (t := 2) (k := 3) (v := J (z14.2 (z14.2 0 0) 3)) 40 cw2 (by decide) g16 q239 same_f rfl dX0_chance_40 ?_
      obtain ⟨j22, ej22, h⟩ := bnd_e h
      have hj22 : ∀ (x1_17 : Int) (x2_18 : Int) (x3_19 : Int) (s20 : XS), j22 x1_17 x2_18 x3_19 s20 = some res → GX l cX0_chance "VerbAtDusk" 4 (some .int) "chance" [] x0 D true 1 712 cN sN (0, res) s20 67 [(0, .ref (ad x0 0)), (1, J x1_17), (2, J x2_18), (3, J x3_19)] [] := by
        clear h
        intro x1_17 x2_18 x3_19 s20 h
        subst ej22
        obtain ⟨x3_21, ex3_21, h⟩ := bnd_e h
        refine gx_iinc 67 3 [(3, J x3_21), (0, .ref (ad x0 0)), (1, J x1_17), (2, J x2_18)] dX0_chance_67 rfl ex3_21 (by decide) rfl ?_
        refine gx_goto 70 25 dX0_chance_70 (by decide) ?_
        refine gx_sub [1, 2, 3, 0] rfl ?_
        exact ih _ _ _ _ h
      refine gx_icmp_ge 43 59 dX0_chance_43 (by decide) (fun c23 => ?_) (fun c23 => ?_)
      · replace h := if_t h c23
        refine gx_aload_n 59 0 dX0_chance_59 rfl ?_
        refine gx_get (t := 1) (k := 11) (v := .ref (ad x0 36)) 60 cw1 (by decide) (tgs (show stc 0 = (1, 0) by decide) (by decide)) q534 same_f (rf_ne (nes (show stc 36 = (8, 6) by decide) (by decide))) dX0_chance_60 ?_
        obtain ⟨z24, ez24, h⟩ := opt_e h
        refine gx_callV (As := []) (rest := []) (st' := [J z24.1]) 63 0 cw8 (tgs (show stc 36 = (8, 6) by decide) (by decide)) (mx7_passes ez24 l) (lw_V q1572 q1573 q1574 q160 q1575) (by decide +kernel) (by decide) rfl rfl (Nat.le_of_ble_eq_true rfl) dX0_chance_63 rfl ?_
        refine gx_pop 66 dX0_chance_66 rfl ?_
        refine gx_sub [0, 1, 2, 3] rfl ?_
        exact hj22 _ _ _ _ h
      · replace h := if_f h c23
        refine gx_aload_n 46 0 dX0_chance_46 rfl ?_
        refine gx_get (t := 1) (k := 11) (v := .ref (ad x0 36)) 47 cw1 (by decide) (tgs (show stc 0 = (1, 0) by decide) (by decide)) q534 same_f (rf_ne (nes (show stc 36 = (8, 6) by decide) (by decide))) dX0_chance_47 ?_
        obtain ⟨z25, ez25, h⟩ := opt_e h
        refine gx_callV (As := []) (rest := []) (st' := []) 50 0 cw8 (tgs (show stc 36 = (8, 6) by decide) (by decide)) (mx7_spills ez25 l) (lw_V q1659 q1660 q1661 q160 q1662) (by decide +kernel) (by decide) rfl rfl (Nat.le_of_ble_eq_true rfl) dX0_chance_50 rfl ?_
        obtain ⟨x2_26, ex2_26, h⟩ := bnd_e h
        refine gx_iinc 53 2 [(2, J x2_26), (0, .ref (ad x0 0)), (1, J x1_7), (3, J x3_9)] dX0_chance_53 rfl ex2_26 (by decide) rfl ?_
        refine gx_goto 56 67 dX0_chance_56 (by decide) ?_
        refine gx_sub [1, 2, 0, 3] rfl ?_
        exact hj22 _ _ _ _ h
theorem mx0_chance {x0 : Nat} {D : XD} {a1 : Int} {s0 : XS} {res : Int × XS} (h : x0_chance a1 s0 = some res) (l : Launch) : XMet0 l yX0_chance cX0_chance 4 (some .int) 712 true x0 D [.ref (ad x0 0), J a1] s0 1 res := by
  refine XMet0.ofn [(0, .ref (ad x0 0)), (1, J a1)] "VerbAtDusk" "chance" rfl rfl (plainFor_of_name (by decide)) (Nat.le_of_ble_eq_true rfl) rfl ?_
  unfold x0_chance at h
  generalize nC s0 = cN
  generalize nS s0 = sN
  refine gx_aload_n 0 0 dX0_chance_0 rfl ?_
  refine gx_iload_n 1 1 dX0_chance_1 rfl ?_
  refine gx_iconst 2 dX0_chance_2 ?_
  refine gx_bipush 3 dX0_chance_3 (by decide) ?_
  obtain ⟨z2, ez2, h⟩ := opt_e h
  refine gx_callV (As := [J a1, J 1, J 100]) (rest := []) (st' := [J z2.1]) 5 3 cw1 (tgs (show stc 0 = (1, 0) by decide) (by decide)) (mx0_isAhead ez2 l) (lw_V q1568 q1570 qs45 q147 q1571) (by decide +kernel) (by decide) rfl rfl (Nat.le_of_ble_eq_true rfl) dX0_chance_5 rfl ?_
  refine gx_if_ne 8 17 dX0_chance_8 (by decide) (fun c3 => ?_) (fun c3 => ?_)
  · replace h := if_f h c3
    refine gx_aload_n 17 0 dX0_chance_17 rfl ?_
    obtain ⟨z4, ez4, h⟩ := opt_e h
    refine gx_callV (As := []) (rest := []) (st' := []) 18 0 cw1 (tgs (show stc 0 = (1, 0) by decide) (by decide)) (mx0_keeps ez4 l) (lw_V q1631 q1633 qs50 q147 q1634) (by decide +kernel) (by decide) rfl rfl (Nat.le_of_ble_eq_true rfl) dX0_chance_18 rfl ?_
    refine gx_iconst 21 dX0_chance_21 ?_
    obtain ⟨x2_5, ex2_5, h⟩ := bnd_e h
    refine gx_istore_n 22 [(2, J x2_5), (0, .ref (ad x0 0)), (1, J a1)] dX0_chance_22 (by decide) ex2_5 rfl ?_
    refine gx_iconst 23 dX0_chance_23 ?_
    obtain ⟨x3_6, ex3_6, h⟩ := bnd_e h
    refine gx_istore_n 24 [(3, J x3_6), (2, J x2_5), (0, .ref (ad x0 0)), (1, J a1)] dX0_chance_24 (by decide) ex3_6 rfl ?_
    refine gx_sub [2, 3, 1, 0] rfl ?_
    refine wx0_chance_L25 (fun x2_27 s28 h => ?_) FU _ _ _ _ h
    · refine gx_iload_n 73 0 dX0_chance_73 rfl ?_
      exact gx_iret 74 dX0_chance_74 (rt h)
  · replace h := if_t h c3
    refine gx_aload_n 11 0 dX0_chance_11 rfl ?_
    refine gx_iconst 12 dX0_chance_12 ?_
    obtain ⟨z29, ez29, h⟩ := opt_e h
    refine gx_callV (As := [J 3]) (rest := []) (st' := [J z29.1]) 13 1 cw1 (tgs (show stc 0 = (1, 0) by decide) (by decide)) (mx0_refuses ez29 l) (lw_V q600 q602 qs1 q147 q603) (by decide +kernel) (by decide) rfl rfl (Nat.le_of_ble_eq_true rfl) dX0_chance_13 rfl ?_
    exact gx_iret 16 dX0_chance_16 (rt h)
/-! VerbAtDusk.seed -/
noncomputable def x0_seed (a1 : Int) (s0 : XS) : Option (Int × XS) :=
  if 0 ≤ i32 a1 then
    bnd (ux s0 0 20 (i32 a1)) fun s3 =>
    some (1, s3)
  else
    Option.bind (x0_refuses 5 s0) fun z4 =>
    if i32 z4.1 < 0 then
      some (0, z4.2)
    else
      some (1, z4.2)
theorem mx0_seed {x0 : Nat} {D : XD} {a1 : Int} {s0 : XS} {res : Int × XS} (h : x0_seed a1 s0 = some res) (l : Launch) : XMet0 l yX0_seed cX0_seed 2 (some .boolean) 2 true x0 D [.ref (ad x0 0), J a1] s0 1 res := by
  refine XMet0.ofn [(0, .ref (ad x0 0)), (1, J a1)] "VerbAtDusk" "seed" rfl rfl (plainFor_of_name (by decide)) (Nat.le_of_ble_eq_true rfl) rfl ?_
  unfold x0_seed at h
  generalize nC s0 = cN
  generalize nS s0 = sN
  refine gx_iload_n 0 1 dX0_seed_0 rfl ?_
  refine gx_if_ge 1 18 dX0_seed_1 (by decide) (fun c2 => ?_) (fun c2 => ?_)
  · replace h := if_t h c2
    refine gx_aload_n 18 0 dX0_seed_18 rfl ?_
    refine gx_iload_n 19 1 dX0_seed_19 rfl ?_
    refine gx_i2l 20 dX0_seed_20 ?_
    obtain ⟨s3, es3, h⟩ := bnd_e h
    refine gx_put (t := 1) (k := 20) (x := (i32 a1)) (ty := .long) 21 cw1 (by decide) (tgs (show stc 0 = (1, 0) by decide) (by decide)) (st0 (show stc 0 = (1, 0) by decide) (by decide)) (stm (show stc 0 = (1, 0) by decide) (by decide)) q543 same_f rfl (by decide +kernel) rfl rfl (congrArg Lg (ux_s _ _ _ _)) es3 dX0_seed_21 ?_
    refine gx_iconst 24 dX0_seed_24 ?_
    exact gx_zret 25 dX0_seed_25 (by decide) (rt h)
  · replace h := if_f h c2
    refine gx_aload_n 4 0 dX0_seed_4 rfl ?_
    refine gx_iconst 5 dX0_seed_5 ?_
    obtain ⟨z4, ez4, h⟩ := opt_e h
    refine gx_callV (As := [J 5]) (rest := []) (st' := [J z4.1]) 6 1 cw1 (tgs (show stc 0 = (1, 0) by decide) (by decide)) (mx0_refuses ez4 l) (lw_V q600 q602 qs1 q147 q603) (by decide +kernel) (by decide) rfl rfl (Nat.le_of_ble_eq_true rfl) dX0_seed_6 rfl ?_
    refine gx_if_lt 9 16 dX0_seed_9 (by decide) (fun c5 => ?_) (fun c5 => ?_)
    · replace h := if_t h c5
      refine gx_iconst 16 dX0_seed_16 ?_
      exact gx_zret 17 dX0_seed_17 (by decide) (rt h)
    · replace h := if_f h c5
      refine gx_iconst 12 dX0_seed_12 ?_
      refine gx_goto 13 17 dX0_seed_13 (by decide) ?_
      exact gx_zret 17 dX0_seed_17 (by decide) (rt h)
/-! VerbAtDusk$Question.meets -/
noncomputable def x23_meets (a0 : Int) (a1 : Int) (a2 : Int) (s0 : XS) : Option (Int × XS) :=
  gd (isMo a2) <|
  gd (tg true s0 a0 = 20) <|
  if i32 3 ≤ i32 (s0 a0 0) then
    gd (tg true s0 a0 = 20) <|
    gd (¬ (s0 a0 2) = -1) <|
    Option.bind (x_at 64 (s0 a0 2) a2 s0) fun z7 =>
    bnd z7.1 fun x3_8 =>
    gd (tg true z7.2 a0 = 20) <|
    bnd (fun (w10 : Int) (s11 : XS) =>
        gd (tg true s11 a0 = 20) <|
        gd (0 ≤ a0 ∧ ¬ (1438 ≤ a0 ∧ a0 < 1514)) <|
        bnd (ux s11 a0 3 w10) fun s14 =>
        gd (tg true s14 a0 = 20) <|
        gd (0 ≤ a0 ∧ ¬ (1438 ≤ a0 ∧ a0 < 1514)) <|
        bnd (ux s14 a0 4 1) fun s17 =>
        some (0, s17)) fun j18 =>
    if i32 (z7.2 a0 4) = 0 then
      j18 x3_8 z7.2
    else
      gd (tg true z7.2 a0 = 20) <|
      if i32 (z7.2 a0 0) = i32 3 then
        gd (tg true z7.2 a0 = 20) <|
        j18 ((z7.2 a0 3) + x3_8) z7.2
      else
        gd (tg true z7.2 a0 = 20) <|
        if i32 (z7.2 a0 0) = i32 4 then
          gd (tg true z7.2 a0 = 20) <|
          Option.bind (j12_max_2 true (z7.2 a0 3) x3_8 z7.2) fun z27 =>
          j18 z27.1 z27.2
        else
          gd (tg true z7.2 a0 = 20) <|
          Option.bind (j12_min_2 true (z7.2 a0 3) x3_8 z7.2) fun z25 =>
          j18 z25.1 z25.2
  else
    gd (tg true s0 a0 = 20) <|
    gd (¬ (s0 a0 1) = -1) <|
    Option.bind (x_ho 64 (s0 a0 1) a2 s0) fun z31 =>
    if i32 z31.1 = 0 then
      some (0, z31.2)
    else
      gd (tg true z31.2 a0 = 20) <|
      bnd (fun (w34 : Int) (s35 : XS) =>
          gd (tg true s35 a0 = 20) <|
          gd (0 ≤ a0 ∧ ¬ (1438 ≤ a0 ∧ a0 < 1514)) <|
          bnd (ux s35 a0 3 w34) fun s38 =>
          gd (tg true s38 a0 = 20) <|
          gd (0 ≤ a0 ∧ ¬ (1438 ≤ a0 ∧ a0 < 1514)) <|
          bnd (ux s38 a0 4 1) fun s41 =>
          some (0, s41)) fun j42 =>
      if i32 (z31.2 a0 0) = i32 2 then
        gd (tg true z31.2 a0 = 20) <|
        Option.bind (j12_max_2 true 0 (z31.2 a0 3) z31.2) fun z53 =>
        j42 (z53.1 + 1) z53.2
      else
        gd (tg true z31.2 a0 = 20) <|
        bnd (fun (x1_45 : Int) (s46 : XS) =>
            j42 (i32 x1_45) s46) fun j47 =>
        if i32 (z31.2 a0 0) = 0 then
          gd (tg true z31.2 a0 = 20) <|
          if i32 (z31.2 a0 4) = 0 then
            j47 a1 z31.2
          else
            gd (tg true z31.2 a0 = 20) <|
            j42 (z31.2 a0 3) z31.2
        else
          j47 a1 z31.2
theorem mx23_meets {x0 : Nat} {D : XD} {a0 : Int} {a1 : Int} {a2 : Int} {s0 : XS} {res : Int × XS} (h : x23_meets a0 a1 a2 s0 = some res) (l : Launch) : XMet0 l yX23_meets cX23_meets 5 none 709 true x0 D [.ref (ad x0 a0), J a1, .ref (ad x0 a2)] s0 0 res := by
  refine XMet0.ofn [(0, .ref (ad x0 a0)), (1, J a1), (2, .ref (ad x0 a2))] "VerbAtDusk$Question" "meets" rfl rfl (plainFor_of_name (by decide)) (Nat.le_of_ble_eq_true rfl) rfl ?_
  unfold x23_meets at h
  generalize nC s0 = cN
  generalize nS s0 = sN
  obtain ⟨ga2, h⟩ := gd_e h
  refine gx_aload_n 0 0 dX23_meets_0 rfl ?_
  obtain ⟨g3, h⟩ := gd_e h
  refine gx_get (t := 20) (k := 0) (v := J (s0 a0 0)) 1 cw20 (by decide) g3 q1687 same_f rfl dX23_meets_1 ?_
  refine gx_iconst 4 dX23_meets_4 ?_
  refine gx_icmp_ge 5 74 dX23_meets_5 (by decide) (fun c4 => ?_) (fun c4 => ?_)
  · replace h := if_t h c4
    refine gx_aload_n 74 0 dX23_meets_74 rfl ?_
    obtain ⟨g5, h⟩ := gd_e h
    obtain ⟨g6, h⟩ := gd_e h
    refine gx_get (t := 20) (k := 2) (v := .ref (ad x0 (s0 a0 2))) 75 cw20 (by decide) g5 q1689 same_f (rf_ne g6) dX23_meets_75 ?_
    refine gx_aload_n 78 2 dX23_meets_78 rfl ?_
    obtain ⟨z7, ez7, h⟩ := opt_e h
    refine gx_callAt (rest := []) (st' := [Lg z7.1]) 79 (mx_at ez7 l) q1709 (by decide) rfl (Nat.le_of_ble_eq_true rfl) dX23_meets_79 rfl ?_
    obtain ⟨x3_8, ex3_8, h⟩ := bnd_e h
    refine gx_lstore_n 82 [(3, Lg x3_8), (0, .ref (ad x0 a0)), (1, J a1), (2, .ref (ad x0 a2))] dX23_meets_82 (by decide) ex3_8 rfl ?_
    refine gx_aload_n 83 1 dX23_meets_83 rfl ?_
    refine gx_aload_n 84 1 dX23_meets_84 rfl ?_
    obtain ⟨g9, h⟩ := gd_e h
    refine gx_get (t := 20) (k := 4) (v := J (z7.2 a0 4)) 85 cw20 (by decide) g9 q1691 same_f rfl dX23_meets_85 ?_
    obtain ⟨j18, ej18, h⟩ := bnd_e h
    have hj18 : ∀ (w10 : Int) (s11 : XS), j18 w10 s11 = some res → GX l cX23_meets "VerbAtDusk$Question" 5 none "meets" [] x0 D true 0 709 cN sN (0, res) s11 139 [(0, .ref (ad x0 a0))] [Lg w10, .ref (ad x0 a0)] := by
      clear h
      intro w10 s11 h
      subst ej18
      obtain ⟨g12, h⟩ := gd_e h
      obtain ⟨g13, h⟩ := gd_e h
      obtain ⟨s14, es14, h⟩ := bnd_e h
      refine gx_put (t := 20) (k := 3) (x := w10) (ty := .long) 139 cw20 (by decide) g12 g13.1 g13.2 q1690 same_f rfl (by decide +kernel) rfl rfl (congrArg Lg (ux_s _ _ _ _)) es14 dX23_meets_139 ?_
      refine gx_aload_n 142 0 dX23_meets_142 rfl ?_
      refine gx_iconst 143 dX23_meets_143 ?_
      obtain ⟨g15, h⟩ := gd_e h
      obtain ⟨g16, h⟩ := gd_e h
      obtain ⟨s17, es17, h⟩ := bnd_e h
      refine gx_put (t := 20) (k := 4) (x := 1) (ty := .boolean) 144 cw20 (by decide) g15 g16.1 g16.2 q1691 same_f rfl (by decide +kernel) (bz_narrow (by decide)) (bz_fits (by decide)) (congrArg J (ux_s _ _ _ _)) es17 dX23_meets_144 ?_
      exact gx_vret 147 dX23_meets_147 (rt h)
    refine gx_if_ne 88 95 dX23_meets_88 (by decide) (fun c19 => ?_) (fun c19 => ?_)
    · replace h := if_f h c19
      refine gx_aload_n 95 1 dX23_meets_95 rfl ?_
      obtain ⟨g20, h⟩ := gd_e h
      refine gx_get (t := 20) (k := 0) (v := J (z7.2 a0 0)) 96 cw20 (by decide) g20 q1687 same_f rfl dX23_meets_96 ?_
      refine gx_iconst 99 dX23_meets_99 ?_
      refine gx_icmp_ne 100 112 dX23_meets_100 (by decide) (fun c21 => ?_) (fun c21 => ?_)
      · replace h := if_f h c21
        refine gx_aload_n 112 1 dX23_meets_112 rfl ?_
        obtain ⟨g22, h⟩ := gd_e h
        refine gx_get (t := 20) (k := 0) (v := J (z7.2 a0 0)) 113 cw20 (by decide) g22 q1687 same_f rfl dX23_meets_113 ?_
        refine gx_iconst 116 dX23_meets_116 ?_
        refine gx_icmp_ne 117 131 dX23_meets_117 (by decide) (fun c23 => ?_) (fun c23 => ?_)
        · replace h := if_f h c23
          refine gx_aload_n 131 1 dX23_meets_131 rfl ?_
          obtain ⟨g24, h⟩ := gd_e h
          refine gx_get (t := 20) (k := 3) (v := Lg (z7.2 a0 3)) 132 cw20 (by decide) g24 q1690 same_f rfl dX23_meets_132 ?_
          refine gx_lload_n 135 0 dX23_meets_135 rfl ?_
          obtain ⟨z25, ez25, h⟩ := opt_e h
          refine gx_callS (As := [Lg (z7.2 a0 3), Lg x3_8]) (rest := [.ref (ad x0 a0)]) (st' := [Lg z25.1, .ref (ad x0 a0)]) 136 2 (mj12_min_2 ez25 l) (lw_S q1710 q1401 q170 q1402) (by decide +kernel) (by decide) rfl rfl (Nat.le_of_ble_eq_true rfl) dX23_meets_136 rfl ?_
          refine gx_sub [1] rfl ?_
          exact hj18 _ _ h
        · replace h := if_t h c23
          refine gx_aload_n 120 1 dX23_meets_120 rfl ?_
          obtain ⟨g26, h⟩ := gd_e h
          refine gx_get (t := 20) (k := 3) (v := Lg (z7.2 a0 3)) 121 cw20 (by decide) g26 q1690 same_f rfl dX23_meets_121 ?_
          refine gx_lload_n 124 0 dX23_meets_124 rfl ?_
          obtain ⟨z27, ez27, h⟩ := opt_e h
          refine gx_callS (As := [Lg (z7.2 a0 3), Lg x3_8]) (rest := [.ref (ad x0 a0)]) (st' := [Lg z27.1, .ref (ad x0 a0)]) 125 2 (mj12_max_2 ez27 l) (lw_S q1708 q1404 q170 q1405) (by decide +kernel) (by decide) rfl rfl (Nat.le_of_ble_eq_true rfl) dX23_meets_125 rfl ?_
          refine gx_goto 128 139 dX23_meets_128 (by decide) ?_
          refine gx_sub [1] rfl ?_
          exact hj18 _ _ h
      · replace h := if_t h c21
        refine gx_aload_n 103 1 dX23_meets_103 rfl ?_
        obtain ⟨g28, h⟩ := gd_e h
        refine gx_get (t := 20) (k := 3) (v := Lg (z7.2 a0 3)) 104 cw20 (by decide) g28 q1690 same_f rfl dX23_meets_104 ?_
        refine gx_lload_n 107 0 dX23_meets_107 rfl ?_
        refine gx_ladd 108 dX23_meets_108 ?_
        refine gx_goto 109 139 dX23_meets_109 (by decide) ?_
        refine gx_sub [1] rfl ?_
        exact hj18 _ _ h
    · replace h := if_t h c19
      refine gx_lload_n 91 0 dX23_meets_91 rfl ?_
      refine gx_goto 92 139 dX23_meets_92 (by decide) ?_
      refine gx_sub [1] rfl ?_
      exact hj18 _ _ h
  · replace h := if_f h c4
    refine gx_aload_n 8 0 dX23_meets_8 rfl ?_
    obtain ⟨g29, h⟩ := gd_e h
    obtain ⟨g30, h⟩ := gd_e h
    refine gx_get (t := 20) (k := 1) (v := .ref (ad x0 (s0 a0 1))) 9 cw20 (by decide) g29 q1688 same_f (rf_ne g30) dX23_meets_9 ?_
    refine gx_aload_n 12 2 dX23_meets_12 rfl ?_
    obtain ⟨z31, ez31, h⟩ := opt_e h
    refine gx_callHo (rest := []) (st' := [J z31.1]) 13 (mx_ho ez31 l) q1707 (by decide) rfl (Nat.le_of_ble_eq_true rfl) dX23_meets_13 rfl ?_
    refine gx_if_ne 16 20 dX23_meets_16 (by decide) (fun c32 => ?_) (fun c32 => ?_)
    · replace h := if_f h c32
      refine gx_aload_n 20 0 dX23_meets_20 rfl ?_
      refine gx_aload_n 21 0 dX23_meets_21 rfl ?_
      obtain ⟨g33, h⟩ := gd_e h
      refine gx_get (t := 20) (k := 0) (v := J (z31.2 a0 0)) 22 cw20 (by decide) g33 q1687 same_f rfl dX23_meets_22 ?_
      refine gx_iconst 25 dX23_meets_25 ?_
      obtain ⟨j42, ej42, h⟩ := bnd_e h
      have hj42 : ∀ (w34 : Int) (s35 : XS), j42 w34 s35 = some res → GX l cX23_meets "VerbAtDusk$Question" 5 none "meets" [] x0 D true 0 709 cN sN (0, res) s35 65 [(0, .ref (ad x0 a0))] [Lg w34, .ref (ad x0 a0)] := by
        clear h
        intro w34 s35 h
        subst ej42
        obtain ⟨g36, h⟩ := gd_e h
        obtain ⟨g37, h⟩ := gd_e h
        obtain ⟨s38, es38, h⟩ := bnd_e h
        refine gx_put (t := 20) (k := 3) (x := w34) (ty := .long) 65 cw20 (by decide) g36 g37.1 g37.2 q1690 same_f rfl (by decide +kernel) rfl rfl (congrArg Lg (ux_s _ _ _ _)) es38 dX23_meets_65 ?_
        refine gx_aload_n 68 0 dX23_meets_68 rfl ?_
        refine gx_iconst 69 dX23_meets_69 ?_
        obtain ⟨g39, h⟩ := gd_e h
        obtain ⟨g40, h⟩ := gd_e h
        obtain ⟨s41, es41, h⟩ := bnd_e h
        refine gx_put (t := 20) (k := 4) (x := 1) (ty := .boolean) 70 cw20 (by decide) g39 g40.1 g40.2 q1691 same_f rfl (by decide +kernel) (bz_narrow (by decide)) (bz_fits (by decide)) (congrArg J (ux_s _ _ _ _)) es41 dX23_meets_70 ?_
        exact gx_vret 73 dX23_meets_73 (rt h)
      refine gx_icmp_ne 26 42 dX23_meets_26 (by decide) (fun c43 => ?_) (fun c43 => ?_)
      · replace h := if_f h c43
        refine gx_aload_n 42 0 dX23_meets_42 rfl ?_
        obtain ⟨g44, h⟩ := gd_e h
        refine gx_get (t := 20) (k := 0) (v := J (z31.2 a0 0)) 43 cw20 (by decide) g44 q1687 same_f rfl dX23_meets_43 ?_
        obtain ⟨j47, ej47, h⟩ := bnd_e h
        have hj47 : ∀ (x1_45 : Int) (s46 : XS), j47 x1_45 s46 = some res → GX l cX23_meets "VerbAtDusk$Question" 5 none "meets" [] x0 D true 0 709 cN sN (0, res) s46 63 [(0, .ref (ad x0 a0)), (1, J x1_45)] [.ref (ad x0 a0)] := by
          clear h
          intro x1_45 s46 h
          subst ej47
          refine gx_iload_n 63 1 dX23_meets_63 rfl ?_
          refine gx_i2l 64 dX23_meets_64 ?_
          refine gx_sub [0] rfl ?_
          exact hj42 _ _ h
        refine gx_if_ne 46 63 dX23_meets_46 (by decide) (fun c48 => ?_) (fun c48 => ?_)
        · replace h := if_f h c48
          refine gx_sub [0, 1] rfl ?_
          exact hj47 _ _ h
        · replace h := if_t h c48
          refine gx_aload_n 49 0 dX23_meets_49 rfl ?_
          obtain ⟨g49, h⟩ := gd_e h
          refine gx_get (t := 20) (k := 4) (v := J (z31.2 a0 4)) 50 cw20 (by decide) g49 q1691 same_f rfl dX23_meets_50 ?_
          refine gx_if_eq 53 63 dX23_meets_53 (by decide) (fun c50 => ?_) (fun c50 => ?_)
          · replace h := if_t h c50
            refine gx_sub [0, 1] rfl ?_
            exact hj47 _ _ h
          · replace h := if_f h c50
            refine gx_aload_n 56 0 dX23_meets_56 rfl ?_
            obtain ⟨g51, h⟩ := gd_e h
            refine gx_get (t := 20) (k := 3) (v := Lg (z31.2 a0 3)) 57 cw20 (by decide) g51 q1690 same_f rfl dX23_meets_57 ?_
            refine gx_goto 60 65 dX23_meets_60 (by decide) ?_
            refine gx_sub [0] rfl ?_
            exact hj42 _ _ h
      · replace h := if_t h c43
        refine gx_lconst (v := 0) 29 dX23_meets_29 (by decide) ?_
        refine gx_aload_n 30 0 dX23_meets_30 rfl ?_
        obtain ⟨g52, h⟩ := gd_e h
        refine gx_get (t := 20) (k := 3) (v := Lg (z31.2 a0 3)) 31 cw20 (by decide) g52 q1690 same_f rfl dX23_meets_31 ?_
        obtain ⟨z53, ez53, h⟩ := opt_e h
        refine gx_callS (As := [Lg 0, Lg (z31.2 a0 3)]) (rest := [.ref (ad x0 a0)]) (st' := [Lg z53.1, .ref (ad x0 a0)]) 34 2 (mj12_max_2 ez53 l) (lw_S q1708 q1404 q170 q1405) (by decide +kernel) (by decide) rfl rfl (Nat.le_of_ble_eq_true rfl) dX23_meets_34 rfl ?_
        refine gx_lconst (v := 1) 37 dX23_meets_37 (by decide) ?_
        refine gx_ladd 38 dX23_meets_38 ?_
        refine gx_goto 39 65 dX23_meets_39 (by decide) ?_
        refine gx_sub [0] rfl ?_
        exact hj42 _ _ h
    · replace h := if_t h c32
      exact gx_vret 19 dX23_meets_19 (rt h)
/-! VerbAtDusk$Question.answer -/
noncomputable def x23_answer (a0 : Int) (s0 : XS) : Option (Int × XS) :=
  gd (tg true s0 a0 = 20) <|
  bnd (fun (s2 : XS) =>
      gd (tg true s2 a0 = 20) <|
      some ((s2 a0 3), s2)) fun j4 =>
  if i32 (s0 a0 4) = 0 then
    gd (tg true s0 a0 = 20) <|
    if i32 2 ≤ i32 (s0 a0 0) then
      some (0, s0)
    else
      j4 s0
  else
    j4 s0
theorem mx23_answer {x0 : Nat} {D : XD} {a0 : Int} {s0 : XS} {res : Int × XS} (h : x23_answer a0 s0 = some res) (l : Launch) : XMet0 l yX23_answer cX23_answer 1 (some .long) 1 true x0 D [.ref (ad x0 a0)] s0 2 res := by
  refine XMet0.ofn [(0, .ref (ad x0 a0))] "VerbAtDusk$Question" "answer" rfl rfl (plainFor_of_name (by decide)) (Nat.le_of_ble_eq_true rfl) rfl ?_
  unfold x23_answer at h
  generalize nC s0 = cN
  generalize nS s0 = sN
  refine gx_aload_n 0 0 dX23_answer_0 rfl ?_
  obtain ⟨g1, h⟩ := gd_e h
  refine gx_get (t := 20) (k := 4) (v := J (s0 a0 4)) 1 cw20 (by decide) g1 q1691 same_f rfl dX23_answer_1 ?_
  obtain ⟨j4, ej4, h⟩ := bnd_e h
  have hj4 : ∀ (s2 : XS), j4 s2 = some res → GX l cX23_answer "VerbAtDusk$Question" 1 (some .long) "answer" [] x0 D true 2 1 cN sN (0, res) s2 15 [(0, .ref (ad x0 a0))] [] := by
    clear h
    intro s2 h
    subst ej4
    refine gx_aload_n 15 0 dX23_answer_15 rfl ?_
    obtain ⟨g3, h⟩ := gd_e h
    refine gx_get (t := 20) (k := 3) (v := Lg (s2 a0 3)) 16 cw20 (by decide) g3 q1690 same_f rfl dX23_answer_16 ?_
    refine gx_goto 19 23 dX23_answer_19 (by decide) ?_
    exact gx_lret 23 dX23_answer_23 (rt h)
  refine gx_if_ne 4 15 dX23_answer_4 (by decide) (fun c5 => ?_) (fun c5 => ?_)
  · replace h := if_f h c5
    refine gx_sub [0] rfl ?_
    exact hj4 _ h
  · replace h := if_t h c5
    refine gx_aload_n 7 0 dX23_answer_7 rfl ?_
    obtain ⟨g6, h⟩ := gd_e h
    refine gx_get (t := 20) (k := 0) (v := J (s0 a0 0)) 8 cw20 (by decide) g6 q1687 same_f rfl dX23_answer_8 ?_
    refine gx_iconst 11 dX23_answer_11 ?_
    refine gx_icmp_ge 12 22 dX23_answer_12 (by decide) (fun c7 => ?_) (fun c7 => ?_)
    · replace h := if_t h c7
      refine gx_lconst (v := 0) 22 dX23_answer_22 (by decide) ?_
      exact gx_lret 23 dX23_answer_23 (rt h)
    · replace h := if_f h c7
      refine gx_sub [0] rfl ?_
      exact hj4 _ h
