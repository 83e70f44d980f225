/-! THE SYSTEM: methods as functions, and their walks (written by xparts.py) -/
set_option maxRecDepth 100000
/-! VerbAtDusk$Reader.byteAt -/
noncomputable def x2_byteAt (a1 : Int) (s0 : XS) : Option (Int × XS) :=
  if i32 a1 < 0 then
    some ((-1), s0)
  else
    if i32 (s0 7 1) ≤ i32 a1 then
      some ((-1), s0)
    else
      gd (ok 1600 a1) <|
      some ((iand (s0 6 (i32 a1)) 255), s0)
theorem mx2_byteAt {x0 : Nat} {D : XD} {a1 : Int} {s0 : XS} {res : Int × XS} (h : x2_byteAt a1 s0 = some res) (l : Launch) : XMet0 l yX2_byteAt cX2_byteAt 2 (some .int) 1 true x0 D [.ref (ad x0 7), J a1] s0 1 res := by
  refine XMet0.ofn [(0, .ref (ad x0 7)), (1, J a1)] "VerbAtDusk$Reader" "byteAt" rfl rfl (plainFor_of_name (by decide)) (Nat.le_of_ble_eq_true rfl) rfl ?_
  unfold x2_byteAt at h
  generalize nC s0 = cN
  generalize nS s0 = sN
  refine gx_iload_n 0 1 dX2_byteAt_0 rfl ?_
  refine gx_if_lt 1 28 dX2_byteAt_1 (by decide) (fun c2 => ?_) (fun c2 => ?_)
  · replace h := if_t h c2
    refine gx_iconst 28 dX2_byteAt_28 ?_
    exact gx_iret 29 dX2_byteAt_29 (rt h)
  · replace h := if_f h c2
    refine gx_iload_n 4 1 dX2_byteAt_4 rfl ?_
    refine gx_aload_n 5 0 dX2_byteAt_5 rfl ?_
    refine gx_get (t := 3) (k := 1) (v := J (s0 7 1)) 6 cw3 (by decide) (tgs (show stc 7 = (3, 0) by decide) (by decide)) q353 same_f rfl dX2_byteAt_6 ?_
    refine gx_icmp_ge 9 28 dX2_byteAt_9 (by decide) (fun c3 => ?_) (fun c3 => ?_)
    · replace h := if_t h c3
      refine gx_iconst 28 dX2_byteAt_28 ?_
      exact gx_iret 29 dX2_byteAt_29 (rt h)
    · replace h := if_f h c3
      refine gx_aload_n 12 0 dX2_byteAt_12 rfl ?_
      refine gx_get (t := 3) (k := 7) (v := .ref (ad x0 0)) 13 cw3 (by decide) (tgs (show stc 7 = (3, 0) by decide) (by decide)) q359 same_f (rf_ne (nes (show stc 0 = (1, 0) by decide) (by decide))) dX2_byteAt_13 ?_
      refine gx_getN (t := 1) (k := 1) (v := .ref (ad x0 6)) 16 cw1 (by decide) (tgs (show stc 0 = (1, 0) by decide) (by decide)) q520 same_f (rf_ne (nes (show stc 6 = (102, 1600) by decide) (by decide))) dX2_byteAt_16 ?_
      refine gx_iload_n 19 1 dX2_byteAt_19 rfl ?_
      obtain ⟨g4, h⟩ := gd_e h
      refine gx_bald 20 (tgs (show stc 6 = (102, 1600) by decide) (by decide)) (oks (show stc 6 = (102, 1600) by decide) (by decide) g4) dX2_byteAt_20 ?_
      refine gx_sipush 21 dX2_byteAt_21 (by decide) ?_
      refine gx_iand 24 dX2_byteAt_24 ?_
      refine gx_goto 25 29 dX2_byteAt_25 (by decide) ?_
      exact gx_iret 29 dX2_byteAt_29 (rt h)
/-! VerbAtDusk$Reader.here -/
noncomputable def x2_here_L0 (k39 : XS → Option (Int × XS)) : Nat → XS → Option (Int × XS)
  | 0, _ => none
  | n + 1, s1 =>
    Option.bind (x2_byteAt (s1 7 2) s1) fun z3 =>
    bnd (fun (s4 : XS) =>
        bnd (ux s4 7 2 ((s4 7 2) + 1)) fun s5 =>
        x2_here_L0 k39 n s5) fun j6 =>
    if i32 z3.1 = i32 32 then
      j6 z3.2
    else
      Option.bind (x2_byteAt (z3.2 7 2) z3.2) fun z8 =>
      if i32 z8.1 = i32 10 then
        j6 z8.2
      else
        k39 z8.2
noncomputable def x2_here (s0 : XS) : Option (Int × XS) :=
  x2_here_L0
    (fun (s10 : XS) =>
      Option.bind (x2_byteAt (s10 7 2) s10) fun z11 =>
      some (z11.1, z11.2))
    FU s0
theorem wx2_here_L0 {l : Launch} {x0 : Nat} {D : XD} {cN sN : Nat} {res : Int × XS} {k39 : XS → Option (Int × XS)} (hk39 : ∀ (s2 : XS), k39 s2 = some res → GX l cX2_here "VerbAtDusk$Reader" 1 (some .int) "here" [] x0 D true 1 2 cN sN (0, res) s2 39 [(0, .ref (ad x0 7))] []) : ∀ (n : Nat) (s1 : XS), x2_here_L0 k39 n s1 = some res → GX l cX2_here "VerbAtDusk$Reader" 1 (some .int) "here" [] x0 D true 1 2 cN sN (0, res) s1 0 [(0, .ref (ad x0 7))] [] := by
  intro n
  induction n with
  | zero =>
    intro s1 h
    cases h
  | succ n ih =>
    intro s1 h
    rw [x2_here_L0] at h
    refine gx_aload_n 0 0 dX2_here_0 rfl ?_
    refine gx_aload_n 1 0 dX2_here_1 rfl ?_
    refine gx_get (t := 3) (k := 2) (v := J (s1 7 2)) 2 cw3 (by decide) (tgs (show stc 7 = (3, 0) by decide) (by decide)) q354 same_f rfl dX2_here_2 ?_
    obtain ⟨z3, ez3, h⟩ := opt_e h
    refine gx_callV (As := [J (s1 7 2)]) (rest := []) (st' := [J z3.1]) 5 1 cw3 (tgs (show stc 7 = (3, 0) by decide) (by decide)) (mx2_byteAt ez3 l) (lw_V q640 q642 qs7 q152 q643) (by decide +kernel) (by decide) rfl rfl (Nat.le_of_ble_eq_true rfl) dX2_here_5 rfl ?_
    refine gx_bipush 8 dX2_here_8 (by decide) ?_
    obtain ⟨j6, ej6, h⟩ := bnd_e h
    have hj6 : ∀ (s4 : XS), j6 s4 = some res → GX l cX2_here "VerbAtDusk$Reader" 1 (some .int) "here" [] x0 D true 1 2 cN sN (0, res) s4 26 [(0, .ref (ad x0 7))] [] := by
      clear h
      intro s4 h
      subst ej6
      refine gx_aload_n 26 0 dX2_here_26 rfl ?_
      refine gx_dup 27 dX2_here_27 rfl ?_
      refine gx_get (t := 3) (k := 2) (v := J (s4 7 2)) 28 cw3 (by decide) (tgs (show stc 7 = (3, 0) by decide) (by decide)) q354 same_f rfl dX2_here_28 ?_
      refine gx_iconst 31 dX2_here_31 ?_
      refine gx_iadd 32 dX2_here_32 ?_
      obtain ⟨s5, es5, h⟩ := bnd_e h
      refine gx_put (t := 3) (k := 2) (x := ((s4 7 2) + 1)) (ty := .int) 33 cw3 (by decide) (tgs (show stc 7 = (3, 0) by decide) (by decide)) (st0 (show stc 7 = (3, 0) by decide) (by decide)) (stm (show stc 7 = (3, 0) by decide) (by decide)) q354 same_f rfl (by decide +kernel) rfl rfl (congrArg J (ux_s _ _ _ _)) es5 dX2_here_33 ?_
      refine gx_goto 36 0 dX2_here_36 (by decide) ?_
      refine gx_sub [0] rfl ?_
      exact ih _ h
    refine gx_icmp_eq 10 26 dX2_here_10 (by decide) (fun c7 => ?_) (fun c7 => ?_)
    · replace h := if_t h c7
      refine gx_sub [0] rfl ?_
      exact hj6 _ h
    · replace h := if_f h c7
      refine gx_aload_n 13 0 dX2_here_13 rfl ?_
      refine gx_aload_n 14 0 dX2_here_14 rfl ?_
      refine gx_get (t := 3) (k := 2) (v := J (z3.2 7 2)) 15 cw3 (by decide) (tgs (show stc 7 = (3, 0) by decide) (by decide)) q354 same_f rfl dX2_here_15 ?_
      obtain ⟨z8, ez8, h⟩ := opt_e h
      refine gx_callV (As := [J (z3.2 7 2)]) (rest := []) (st' := [J z8.1]) 18 1 cw3 (tgs (show stc 7 = (3, 0) by decide) (by decide)) (mx2_byteAt ez8 l) (lw_V q640 q642 qs7 q152 q643) (by decide +kernel) (by decide) rfl rfl (Nat.le_of_ble_eq_true rfl) dX2_here_18 rfl ?_
      refine gx_bipush 21 dX2_here_21 (by decide) ?_
      refine gx_icmp_ne 23 39 dX2_here_23 (by decide) (fun c9 => ?_) (fun c9 => ?_)
      · replace h := if_f h c9
        refine gx_sub [0] rfl ?_
        exact hk39 _ h
      · replace h := if_t h c9
        refine gx_sub [0] rfl ?_
        exact hj6 _ h
theorem mx2_here {x0 : Nat} {D : XD} {s0 : XS} {res : Int × XS} (h : x2_here s0 = some res) (l : Launch) : XMet0 l yX2_here cX2_here 1 (some .int) 2 true x0 D [.ref (ad x0 7)] s0 1 res := by
  refine XMet0.ofn [(0, .ref (ad x0 7))] "VerbAtDusk$Reader" "here" rfl rfl (plainFor_of_name (by decide)) (Nat.le_of_ble_eq_true rfl) rfl ?_
  unfold x2_here at h
  generalize nC s0 = cN
  generalize nS s0 = sN
  refine gx_sub [0] rfl ?_
  refine wx2_here_L0 (fun s10 h => ?_) FU _ h
  · refine gx_aload_n 39 0 dX2_here_39 rfl ?_
    refine gx_aload_n 40 0 dX2_here_40 rfl ?_
    refine gx_get (t := 3) (k := 2) (v := J (s10 7 2)) 41 cw3 (by decide) (tgs (show stc 7 = (3, 0) by decide) (by decide)) q354 same_f rfl dX2_here_41 ?_
    obtain ⟨z11, ez11, h⟩ := opt_e h
    refine gx_callV (As := [J (s10 7 2)]) (rest := []) (st' := [J z11.1]) 44 1 cw3 (tgs (show stc 7 = (3, 0) by decide) (by decide)) (mx2_byteAt ez11 l) (lw_V q640 q642 qs7 q152 q643) (by decide +kernel) (by decide) rfl rfl (Nat.le_of_ble_eq_true rfl) dX2_here_44 rfl ?_
    exact gx_iret 47 dX2_here_47 (rt h)
/-! VerbAtDusk$Reader.wrong -/
noncomputable def x2_wrong (a1 : Int) (a2 : Int) (s0 : XS) : Option (Int × XS) :=
  bnd (ux s0 8 6 a1) fun s3 =>
  bnd (ux s3 8 7 a2) fun s4 =>
  some (8, s4)
theorem mx2_wrong {x0 : Nat} {D : XD} {a1 : Int} {a2 : Int} {s0 : XS} {res : Int × XS} (h : x2_wrong a1 a2 s0 = some res) (l : Launch) : XMet0 l yX2_wrong cX2_wrong 3 (some (.object "VerbAtDusk$Fault")) 1 true x0 D [.ref (ad x0 7), J a1, J a2] s0 3 res := by
  refine XMet0.ofn [(0, .ref (ad x0 7)), (1, J a1), (2, J a2)] "VerbAtDusk$Reader" "wrong" rfl rfl (plainFor_of_name (by decide)) (Nat.le_of_ble_eq_true rfl) rfl ?_
  unfold x2_wrong at h
  generalize nC s0 = cN
  generalize nS s0 = sN
  refine gx_aload_n 0 0 dX2_wrong_0 rfl ?_
  refine gx_get (t := 3) (k := 0) (v := .ref (ad x0 8)) 1 cw3 (by decide) (tgs (show stc 7 = (3, 0) by decide) (by decide)) q352 same_f (rf_ne (nes (show stc 8 = (4, 0) by decide) (by decide))) dX2_wrong_1 ?_
  refine gx_iload_n 4 1 dX2_wrong_4 rfl ?_
  obtain ⟨s3, es3, h⟩ := bnd_e h
  refine gx_putN (t := 4) (k := 6) (x := a1) (ty := .int) 5 cw4 (by decide) (tgs (show stc 8 = (4, 0) by decide) (by decide)) (st0 (show stc 8 = (4, 0) by decide) (by decide)) (stm (show stc 8 = (4, 0) by decide) (by decide)) q330 same_f rfl (by decide +kernel) rfl rfl (congrArg J (ux_s _ _ _ _)) es3 dX2_wrong_5 ?_
  refine gx_aload_n 8 0 dX2_wrong_8 rfl ?_
  refine gx_get (t := 3) (k := 0) (v := .ref (ad x0 8)) 9 cw3 (by decide) (tgs (show stc 7 = (3, 0) by decide) (by decide)) q352 same_f (rf_ne (nes (show stc 8 = (4, 0) by decide) (by decide))) dX2_wrong_9 ?_
  refine gx_iload_n 12 2 dX2_wrong_12 rfl ?_
  obtain ⟨s4, es4, h⟩ := bnd_e h
  refine gx_putN (t := 4) (k := 7) (x := a2) (ty := .int) 13 cw4 (by decide) (tgs (show stc 8 = (4, 0) by decide) (by decide)) (st0 (show stc 8 = (4, 0) by decide) (by decide)) (stm (show stc 8 = (4, 0) by decide) (by decide)) q332 same_f rfl (by decide +kernel) rfl rfl (congrArg J (ux_s _ _ _ _)) es4 dX2_wrong_13 ?_
  refine gx_aload_n 16 0 dX2_wrong_16 rfl ?_
  refine gx_get (t := 3) (k := 0) (v := .ref (ad x0 8)) 17 cw3 (by decide) (tgs (show stc 7 = (3, 0) by decide) (by decide)) q352 same_f (rf_ne (nes (show stc 8 = (4, 0) by decide) (by decide))) dX2_wrong_17 ?_
  exact gx_aret 20 (Or.inl ⟨_, rfl⟩) dX2_wrong_20 (rt h)
/-! VerbAtDusk$Reader.parted -/
noncomputable def x2_parted (s0 : XS) : Option RX :=
  Option.bind (x2_byteAt ((s0 7 2) - 1) s0) fun z1 =>
  Option.bind (x0_isLetter z1.1 z1.2) fun z2 =>
  bnd (fun (s3 : XS) =>
      Option.bind (x2_wrong 1 (s3 7 2) s3) fun z4 =>
      gd (z4.1 = 8) <|
      some (1, 0, z4.2)) fun j6 =>
  if i32 z2.1 = 0 then
    Option.bind (x2_byteAt ((z2.2 7 2) - 1) z2.2) fun z8 =>
    Option.bind (x0_isDigit z8.1 z8.2) fun z9 =>
    if i32 z9.1 = 0 then
      some (0, 0, z9.2)
    else
      j6 z9.2
  else
    j6 z2.2
theorem mx2_parted {x0 : Nat} {D : XD} {s0 : XS} {res : RX} (h : x2_parted s0 = some res) (l : Launch) : XMet l yX2_parted cX2_parted 1 none 2 true x0 D [.ref (ad x0 7)] s0 0 res := by
  refine XMet.ofn [(0, .ref (ad x0 7))] "VerbAtDusk$Reader" "parted" rfl rfl (by decide) (Nat.le_of_ble_eq_true rfl) rfl ?_
  unfold x2_parted at h
  generalize nC s0 = cN
  generalize nS s0 = sN
  refine gx_aload_n 0 0 dX2_parted_0 rfl ?_
  refine gx_aload_n 1 0 dX2_parted_1 rfl ?_
  refine gx_get (t := 3) (k := 2) (v := J (s0 7 2)) 2 cw3 (by decide) (tgs (show stc 7 = (3, 0) by decide) (by decide)) q354 same_f rfl dX2_parted_2 ?_
  refine gx_iconst 5 dX2_parted_5 ?_
  refine gx_isub 6 dX2_parted_6 ?_
  obtain ⟨z1, ez1, h⟩ := opt_e h
  refine gx_callV (As := [J ((s0 7 2) - 1)]) (rest := []) (st' := [J z1.1]) 7 1 cw3 (tgs (show stc 7 = (3, 0) by decide) (by decide)) (mx2_byteAt ez1 l) (lw_V q640 q642 qs7 q152 q643) (by decide +kernel) (by decide) rfl rfl (Nat.le_of_ble_eq_true rfl) dX2_parted_7 rfl ?_
  obtain ⟨z2, ez2, h⟩ := opt_e h
  refine gx_callSN (As := [J z1.1]) (rest := []) (st' := [J z2.1]) 10 1 (mx0_isLetter ez2 l) q646 q147 q644 q645 (by decide +kernel) (by decide) rfl rfl (Nat.le_of_ble_eq_true rfl) dX2_parted_10 rfl ?_
  obtain ⟨j6, ej6, h⟩ := bnd_e h
  have hj6 : ∀ (s3 : XS), j6 s3 = some res → GX l cX2_parted "VerbAtDusk$Reader" 1 none "parted" [] x0 D true 0 2 cN sN res s3 32 [(0, .ref (ad x0 7))] [] := by
    clear h
    intro s3 h
    subst ej6
    refine gx_aload_n 32 0 dX2_parted_32 rfl ?_
    refine gx_iconst 33 dX2_parted_33 ?_
    refine gx_aload_n 34 0 dX2_parted_34 rfl ?_
    refine gx_get (t := 3) (k := 2) (v := J (s3 7 2)) 35 cw3 (by decide) (tgs (show stc 7 = (3, 0) by decide) (by decide)) q354 same_f rfl dX2_parted_35 ?_
    obtain ⟨z4, ez4, h⟩ := opt_e h
    refine gx_callV (As := [J 1, J (s3 7 2)]) (rest := []) (st' := [.ref (ad x0 z4.1)]) 38 2 cw3 (tgs (show stc 7 = (3, 0) by decide) (by decide)) (mx2_wrong ez4 l) (lw_V q647 q649 qs8 q152 q650) (by decide +kernel) (by decide) rfl rfl (Nat.le_of_ble_eq_true rfl) dX2_parted_38 rfl ?_
    obtain ⟨g5, h⟩ := gd_e h
    rw [g5]
    exact gx_athrowE 41 rfl rfl (tgs (show stc 8 = (4, 0) by decide) (by decide)) cw4 dX2_parted_41 h
  refine gx_if_ne 13 32 dX2_parted_13 (by decide) (fun c7 => ?_) (fun c7 => ?_)
  · replace h := if_f h c7
    refine gx_sub [0] rfl ?_
    exact hj6 _ h
  · replace h := if_t h c7
    refine gx_aload_n 16 0 dX2_parted_16 rfl ?_
    refine gx_aload_n 17 0 dX2_parted_17 rfl ?_
    refine gx_get (t := 3) (k := 2) (v := J (z2.2 7 2)) 18 cw3 (by decide) (tgs (show stc 7 = (3, 0) by decide) (by decide)) q354 same_f rfl dX2_parted_18 ?_
    refine gx_iconst 21 dX2_parted_21 ?_
    refine gx_isub 22 dX2_parted_22 ?_
    obtain ⟨z8, ez8, h⟩ := opt_e h
    refine gx_callV (As := [J ((z2.2 7 2) - 1)]) (rest := []) (st' := [J z8.1]) 23 1 cw3 (tgs (show stc 7 = (3, 0) by decide) (by decide)) (mx2_byteAt ez8 l) (lw_V q640 q642 qs7 q152 q643) (by decide +kernel) (by decide) rfl rfl (Nat.le_of_ble_eq_true rfl) dX2_parted_23 rfl ?_
    obtain ⟨z9, ez9, h⟩ := opt_e h
    refine gx_callSN (As := [J z8.1]) (rest := []) (st' := [J z9.1]) 26 1 (mx0_isDigit ez9 l) q657 q147 q655 q656 (by decide +kernel) (by decide) rfl rfl (Nat.le_of_ble_eq_true rfl) dX2_parted_26 rfl ?_
    refine gx_if_eq 29 42 dX2_parted_29 (by decide) (fun c10 => ?_) (fun c10 => ?_)
    · replace h := if_t h c10
      exact gx_vret 42 dX2_parted_42 h
    · replace h := if_f h c10
      refine gx_sub [0] rfl ?_
      exact hj6 _ h
/-! VerbAtDusk$Reader.word_2 -/
noncomputable def x2_word_2_L32 (k59 : XS → Option RX) : Nat → XS → Option RX
  | 0, _ => none
  | n + 1, s7 =>
    Option.bind (x2_byteAt (s7 7 2) s7) fun z9 =>
    Option.bind (x0_isLetter z9.1 z9.2) fun z10 =>
    if i32 z10.1 = 0 then
      k59 z10.2
    else
      bnd (ux z10.2 7 2 ((z10.2 7 2) + 1)) fun s12 =>
      x2_word_2_L32 k59 n s12
noncomputable def x2_word_2_L76 (k108 : Int → XS → Option RX) : Nat → Int → Int → XS → Option RX
  | 0, _, _, _ => none
  | n + 1, x1_19, x2_20, s21 =>
    if i32 (s21 7 2) ≤ i32 x2_20 then
      k108 x1_19 s21
    else
      gd (ok 1600 x2_20) <|
      gd (tg true s21 x1_19 = 105) <|
      gd (0 ≤ x1_19 ∧ ¬ (1438 ≤ x1_19 ∧ x1_19 < 1514)) <|
      gd (ok (ln true s21 x1_19) (x2_20 - (s21 7 3))) <|
      bnd (ux s21 x1_19 (i32 (x2_20 - (s21 7 3))) (u16 (u16 (s21 6 (i32 x2_20))))) fun s29 =>
      bnd (x2_20 + 1) fun x2_30 =>
      x2_word_2_L76 k108 n x1_19 x2_30 s29
noncomputable def x2_word_2 (s0 : XS) : Option RX :=
  Option.bind (x2_here s0) fun z1 =>
  Option.bind (x0_isLetter z1.1 z1.2) fun z2 =>
  if i32 z2.1 = 0 then
    Option.bind (x2_wrong 1 (z2.2 7 2) z2.2) fun z34 =>
    gd (z34.1 = 8) <|
    some (1, 0, z34.2)
  else
    Option.bind (x2_parted z2.2) fun z4 =>
    if z4.1 = 0 then
    bnd (ux z4.2.2 7 3 (z4.2.2 7 2)) fun s6 =>
    x2_word_2_L32
      (fun (s13 : XS) =>
        gd (0 ≤ s13 (-1) 0 ∧ 0 ≤ s13 (-1) 1) <|
        gd (0 ≤ i32 ((s13 7 2) - (s13 7 3)) ∧ i32 ((s13 7 2) - (s13 7 3)) < 1000000) <|
        bnd (nwx s13 105 (i32 ((s13 7 2) - (s13 7 3))) (i32 ((s13 7 2) - (s13 7 3))) (fun _ => 0)) fun s16 =>
        bnd (s13 (-1) 0) fun x1_17 =>
        bnd (s16 7 3) fun x2_18 =>
        x2_word_2_L76
          (fun (x1_31 : Int) (s32 : XS) =>
            Option.bind (j6_valueOf true x1_31 s32) fun z33 =>
            some (0, z33.1, z33.2))
          FU x1_17 x2_18 s16)
      FU s6
    else some (1, 0, z4.2.2)
theorem wx2_word_2_L32 {l : Launch} {x0 : Nat} {D : XD} {cN sN : Nat} {res : RX} {k59 : XS → Option RX} (hk59 : ∀ (s8 : XS), k59 s8 = some res → GX l cX2_word_2 "VerbAtDusk$Reader" 3 (some (.object "java/lang/String")) "word" [] x0 D true 3 6 cN sN res s8 59 [(0, .ref (ad x0 7))] []) : ∀ (n : Nat) (s7 : XS), x2_word_2_L32 k59 n s7 = some res → GX l cX2_word_2 "VerbAtDusk$Reader" 3 (some (.object "java/lang/String")) "word" [] x0 D true 3 6 cN sN res s7 32 [(0, .ref (ad x0 7))] [] := by
  intro n
  induction n with
  | zero =>
    intro s7 h
    cases h
  | succ n ih =>
    intro s7 h
    rw [x2_word_2_L32] at h
    refine gx_aload_n 32 0 dX2_word_2_32 rfl ?_
    refine gx_aload_n 33 0 dX2_word_2_33 rfl ?_
    refine gx_get (t := 3) (k := 2) (v := J (s7 7 2)) 34 cw3 (by decide) (tgs (show stc 7 = (3, 0) by decide) (by decide)) q354 same_f rfl dX2_word_2_34 ?_
    obtain ⟨z9, ez9, h⟩ := opt_e h
    refine gx_callV (As := [J (s7 7 2)]) (rest := []) (st' := [J z9.1]) 37 1 cw3 (tgs (show stc 7 = (3, 0) by decide) (by decide)) (mx2_byteAt ez9 l) (lw_V q640 q642 qs7 q152 q643) (by decide +kernel) (by decide) rfl rfl (Nat.le_of_ble_eq_true rfl) dX2_word_2_37 rfl ?_
    obtain ⟨z10, ez10, h⟩ := opt_e h
    refine gx_callSN (As := [J z9.1]) (rest := []) (st' := [J z10.1]) 40 1 (mx0_isLetter ez10 l) q646 q147 q644 q645 (by decide +kernel) (by decide) rfl rfl (Nat.le_of_ble_eq_true rfl) dX2_word_2_40 rfl ?_
    refine gx_if_eq 43 59 dX2_word_2_43 (by decide) (fun c11 => ?_) (fun c11 => ?_)
    · replace h := if_t h c11
      refine gx_sub [0] rfl ?_
      exact hk59 _ h
    · replace h := if_f h c11
      refine gx_aload_n 46 0 dX2_word_2_46 rfl ?_
      refine gx_dup 47 dX2_word_2_47 rfl ?_
      refine gx_get (t := 3) (k := 2) (v := J (z10.2 7 2)) 48 cw3 (by decide) (tgs (show stc 7 = (3, 0) by decide) (by decide)) q354 same_f rfl dX2_word_2_48 ?_
      refine gx_iconst 51 dX2_word_2_51 ?_
      refine gx_iadd 52 dX2_word_2_52 ?_
      obtain ⟨s12, es12, h⟩ := bnd_e h
      refine gx_put (t := 3) (k := 2) (x := ((z10.2 7 2) + 1)) (ty := .int) 53 cw3 (by decide) (tgs (show stc 7 = (3, 0) by decide) (by decide)) (st0 (show stc 7 = (3, 0) by decide) (by decide)) (stm (show stc 7 = (3, 0) by decide) (by decide)) q354 same_f rfl (by decide +kernel) rfl rfl (congrArg J (ux_s _ _ _ _)) es12 dX2_word_2_53 ?_
      refine gx_goto 56 32 dX2_word_2_56 (by decide) ?_
      refine gx_sub [0] rfl ?_
      exact ih _ h
theorem wx2_word_2_L76 {l : Launch} {x0 : Nat} {D : XD} {cN sN : Nat} {res : RX} {k108 : Int → XS → Option RX} (hk108 : ∀ (x1_22 : Int) (s23 : XS), k108 x1_22 s23 = some res → GX l cX2_word_2 "VerbAtDusk$Reader" 3 (some (.object "java/lang/String")) "word" [] x0 D true 3 6 cN sN res s23 108 [(1, .ref (ad x0 x1_22))] []) : ∀ (n : Nat) (x1_19 : Int) (x2_20 : Int) (s21 : XS), x2_word_2_L76 k108 n x1_19 x2_20 s21 = some res → GX l cX2_word_2 "VerbAtDusk$Reader" 3 (some (.object "java/lang/String")) "word" [] x0 D true 3 6 cN sN res s21 76 [(0, .ref (ad x0 7)), (1, .ref (ad x0 x1_19)), (2, J x2_20)] [] := by
  intro n
  induction n with
  | zero =>
    intro x1_19 x2_20 s21 h
    cases h
  | succ n ih =>
    intro x1_19 x2_20 s21 h
    rw [x2_word_2_L76] at h
    refine gx_iload_n 76 2 dX2_word_2_76 rfl ?_
    refine gx_aload_n 77 0 dX2_word_2_77 rfl ?_
    refine gx_get (t := 3) (k := 2) (v := J (s21 7 2)) 78 cw3 (by decide) (tgs (show stc 7 = (3, 0) by decide) (by decide)) q354 same_f rfl dX2_word_2_78 ?_
    refine gx_icmp_ge 81 108 dX2_word_2_81 (by decide) (fun c24 => ?_) (fun c24 => ?_)
    · replace h := if_t h c24
      refine gx_sub [1] rfl ?_
      exact hk108 _ _ h
    · replace h := if_f h c24
      refine gx_aload_n 84 1 dX2_word_2_84 rfl ?_
      refine gx_iload_n 85 2 dX2_word_2_85 rfl ?_
      refine gx_aload_n 86 0 dX2_word_2_86 rfl ?_
      refine gx_get (t := 3) (k := 3) (v := J (s21 7 3)) 87 cw3 (by decide) (tgs (show stc 7 = (3, 0) by decide) (by decide)) q355 same_f rfl dX2_word_2_87 ?_
      refine gx_isub 90 dX2_word_2_90 ?_
      refine gx_aload_n 91 0 dX2_word_2_91 rfl ?_
      refine gx_get (t := 3) (k := 7) (v := .ref (ad x0 0)) 92 cw3 (by decide) (tgs (show stc 7 = (3, 0) by decide) (by decide)) q359 same_f (rf_ne (nes (show stc 0 = (1, 0) by decide) (by decide))) dX2_word_2_92 ?_
      refine gx_getN (t := 1) (k := 1) (v := .ref (ad x0 6)) 95 cw1 (by decide) (tgs (show stc 0 = (1, 0) by decide) (by decide)) q520 same_f (rf_ne (nes (show stc 6 = (102, 1600) by decide) (by decide))) dX2_word_2_95 ?_
      refine gx_iload_n 98 2 dX2_word_2_98 rfl ?_
      obtain ⟨g25, h⟩ := gd_e h
      refine gx_bald 99 (tgs (show stc 6 = (102, 1600) by decide) (by decide)) (oks (show stc 6 = (102, 1600) by decide) (by decide) g25) dX2_word_2_99 ?_
      refine gx_i2c 100 dX2_word_2_100 ?_
      obtain ⟨g26, h⟩ := gd_e h
      obtain ⟨g27, h⟩ := gd_e h
      obtain ⟨g28, h⟩ := gd_e h
      obtain ⟨s29, es29, h⟩ := bnd_e h
      refine gx_castC 101 g26 g27.1 g27.2 g28 es29 dX2_word_2_101 ?_
      obtain ⟨x2_30, ex2_30, h⟩ := bnd_e h
      refine gx_iinc 102 2 [(2, J x2_30), (0, .ref (ad x0 7)), (1, .ref (ad x0 x1_19))] dX2_word_2_102 rfl ex2_30 (by decide) rfl ?_
      refine gx_goto 105 76 dX2_word_2_105 (by decide) ?_
      refine gx_sub [1, 2, 0] rfl ?_
      exact ih _ _ _ h
theorem mx2_word_2 {x0 : Nat} {D : XD} {s0 : XS} {res : RX} (h : x2_word_2 s0 = some res) (l : Launch) : XMet l yX2_word_2 cX2_word_2 3 (some (.object "java/lang/String")) 6 true x0 D [.ref (ad x0 7)] s0 3 res := by
  refine XMet.ofn [(0, .ref (ad x0 7))] "VerbAtDusk$Reader" "word" rfl rfl (by decide) (Nat.le_of_ble_eq_true rfl) rfl ?_
  unfold x2_word_2 at h
  generalize nC s0 = cN
  generalize nS s0 = sN
  refine gx_aload_n 0 0 dX2_word_2_0 rfl ?_
  obtain ⟨z1, ez1, h⟩ := opt_e h
  refine gx_callV (As := []) (rest := []) (st' := [J z1.1]) 1 0 cw3 (tgs (show stc 7 = (3, 0) by decide) (by decide)) (mx2_here ez1 l) (lw_V q636 q638 qs6 q152 q639) (by decide +kernel) (by decide) rfl rfl (Nat.le_of_ble_eq_true rfl) dX2_word_2_1 rfl ?_
  obtain ⟨z2, ez2, h⟩ := opt_e h
  refine gx_callSN (As := [J z1.1]) (rest := []) (st' := [J z2.1]) 4 1 (mx0_isLetter ez2 l) q646 q147 q644 q645 (by decide +kernel) (by decide) rfl rfl (Nat.le_of_ble_eq_true rfl) dX2_word_2_4 rfl ?_
  refine gx_if_ne 7 20 dX2_word_2_7 (by decide) (fun c3 => ?_) (fun c3 => ?_)
  · replace h := if_f h c3
    refine gx_aload_n 20 0 dX2_word_2_20 rfl ?_
    obtain ⟨z4, ez4, h⟩ := opt_e h
    by_cases c5 : z4.1 = 0
    rotate_left
    · replace h := if_f h c5
      exact gx_callTX (As := []) (rest := []) 21 0 rfl cw3 (tgs (show stc 7 = (3, 0) by decide) (by decide)) c5 (mx2_parted ez4 l) (lw_V q651 q653 qs9 q152 q654) (by decide +kernel) (by decide) rfl rfl (Nat.le_of_ble_eq_true rfl) dX2_word_2_21 h
    replace h := if_t h c5
    refine gx_callT (As := []) (rest := []) (st' := []) 21 0 cw3 (tgs (show stc 7 = (3, 0) by decide) (by decide)) c5 (mx2_parted ez4 l) (lw_V q651 q653 qs9 q152 q654) (by decide +kernel) (by decide) rfl rfl (Nat.le_of_ble_eq_true rfl) dX2_word_2_21 rfl ?_
    refine gx_aload_n 24 0 dX2_word_2_24 rfl ?_
    refine gx_aload_n 25 0 dX2_word_2_25 rfl ?_
    refine gx_get (t := 3) (k := 2) (v := J (z4.2.2 7 2)) 26 cw3 (by decide) (tgs (show stc 7 = (3, 0) by decide) (by decide)) q354 same_f rfl dX2_word_2_26 ?_
    obtain ⟨s6, es6, h⟩ := bnd_e h
    refine gx_put (t := 3) (k := 3) (x := (z4.2.2 7 2)) (ty := .int) 29 cw3 (by decide) (tgs (show stc 7 = (3, 0) by decide) (by decide)) (st0 (show stc 7 = (3, 0) by decide) (by decide)) (stm (show stc 7 = (3, 0) by decide) (by decide)) q355 same_f rfl (by decide +kernel) rfl rfl (congrArg J (ux_s _ _ _ _)) es6 dX2_word_2_29 ?_
    refine gx_sub [0] rfl ?_
    refine wx2_word_2_L32 (fun s13 h => ?_) FU _ h
    · refine gx_aload_n 59 0 dX2_word_2_59 rfl ?_
      refine gx_get (t := 3) (k := 2) (v := J (s13 7 2)) 60 cw3 (by decide) (tgs (show stc 7 = (3, 0) by decide) (by decide)) q354 same_f rfl dX2_word_2_60 ?_
      refine gx_aload_n 63 0 dX2_word_2_63 rfl ?_
      refine gx_get (t := 3) (k := 3) (v := J (s13 7 3)) 64 cw3 (by decide) (tgs (show stc 7 = (3, 0) by decide) (by decide)) q355 same_f rfl dX2_word_2_64 ?_
      refine gx_isub 67 dX2_word_2_67 ?_
      obtain ⟨g14, h⟩ := gd_e h
      obtain ⟨g15, h⟩ := gd_e h
      obtain ⟨s16, es16, h⟩ := bnd_e h
      refine gx_newarr (t := 105) (atype := .char) 68 g14 (by decide) (by decide) g15 q735 (by decide) (fun _ _ h => h) (fun _ _ => rfl) es16 dX2_word_2_68 ?_
      obtain ⟨x1_17, ex1_17, h⟩ := bnd_e h
      refine gx_astore_nv 70 [(1, .ref (ad x0 x1_17)), (0, .ref (ad x0 7))] dX2_word_2_70 (by decide) ex1_17 rfl ?_
      refine gx_aload_n 71 1 dX2_word_2_71 rfl ?_
      refine gx_get (t := 3) (k := 3) (v := J (s16 7 3)) 72 cw3 (by decide) (tgs (show stc 7 = (3, 0) by decide) (by decide)) q355 same_f rfl dX2_word_2_72 ?_
      obtain ⟨x2_18, ex2_18, h⟩ := bnd_e h
      refine gx_istore_n 75 [(2, J x2_18), (1, .ref (ad x0 x1_17)), (0, .ref (ad x0 7))] dX2_word_2_75 (by decide) ex2_18 rfl ?_
      refine gx_sub [2, 1, 0] rfl ?_
      refine wx2_word_2_L76 (fun x1_31 s32 h => ?_) FU _ _ _ h
      · refine gx_aload_n 108 0 dX2_word_2_108 rfl ?_
        obtain ⟨z33, ez33, h⟩ := opt_e h
        refine gx_callS (As := [.ref (ad x0 x1_31)]) (rest := []) (st' := [.ref (ad x0 z33.1)]) 109 1 (mj6_valueOf ez33 l) (lw_S q658 q659 q162 q660) (by decide +kernel) (by decide) rfl rfl (Nat.le_of_ble_eq_true rfl) dX2_word_2_109 rfl ?_
        exact gx_aret 112 (Or.inl ⟨_, rfl⟩) dX2_word_2_112 h
  · replace h := if_t h c3
    refine gx_aload_n 10 0 dX2_word_2_10 rfl ?_
    refine gx_iconst 11 dX2_word_2_11 ?_
    refine gx_aload_n 12 0 dX2_word_2_12 rfl ?_
    refine gx_get (t := 3) (k := 2) (v := J (z2.2 7 2)) 13 cw3 (by decide) (tgs (show stc 7 = (3, 0) by decide) (by decide)) q354 same_f rfl dX2_word_2_13 ?_
    obtain ⟨z34, ez34, h⟩ := opt_e h
    refine gx_callV (As := [J 1, J (z2.2 7 2)]) (rest := []) (st' := [.ref (ad x0 z34.1)]) 16 2 cw3 (tgs (show stc 7 = (3, 0) by decide) (by decide)) (mx2_wrong ez34 l) (lw_V q647 q649 qs8 q152 q650) (by decide +kernel) (by decide) rfl rfl (Nat.le_of_ble_eq_true rfl) dX2_word_2_16 rfl ?_
    obtain ⟨g35, h⟩ := gd_e h
    rw [g35]
    exact gx_athrowE 19 rfl rfl (tgs (show stc 8 = (4, 0) by decide) (by decide)) cw4 dX2_word_2_19 h
/-! VerbAtDusk$Reader.word -/
noncomputable def x2_word (a1 : Int) (s0 : XS) : Option RX :=
  Option.bind (x2_word_2 s0) fun z2 =>
  if z2.1 = 0 then
  gd (tg true z2.2.2 z2.2.1 = 22) <|
  Option.bind (j6_equals true z2.2.1 a1 z2.2.2) fun z4 =>
  if i32 z4.1 = 0 then
    Option.bind (x2_wrong 1 (z4.2 7 3) z4.2) fun z7 =>
    gd (z7.1 = 8) <|
    some (1, 0, z7.2)
  else
    some (0, 0, z4.2)
  else some (1, 0, z2.2.2)
theorem mx2_word {x0 : Nat} {D : XD} {a1 : Int} {s0 : XS} {res : RX} (h : x2_word a1 s0 = some res) (l : Launch) : XMet l yX2_word cX2_word 2 none 7 true x0 D [.ref (ad x0 7), .ref (ad x0 a1)] s0 0 res := by
  refine XMet.ofn [(0, .ref (ad x0 7)), (1, .ref (ad x0 a1))] "VerbAtDusk$Reader" "word" rfl rfl (by decide) (Nat.le_of_ble_eq_true rfl) rfl ?_
  unfold x2_word at h
  generalize nC s0 = cN
  generalize nS s0 = sN
  refine gx_aload_n 0 0 dX2_word_0 rfl ?_
  obtain ⟨z2, ez2, h⟩ := opt_e h
  by_cases c3 : z2.1 = 0
  rotate_left
  · replace h := if_f h c3
    exact gx_callTX (As := []) (rest := []) 1 0 rfl cw3 (tgs (show stc 7 = (3, 0) by decide) (by decide)) c3 (mx2_word_2 ez2 l) (lw_V q632 q634 qs5 q152 q635) (by decide +kernel) (by decide) rfl rfl (Nat.le_of_ble_eq_true rfl) dX2_word_1 h
  replace h := if_t h c3
  refine gx_callT (As := []) (rest := []) (st' := [.ref (ad x0 z2.2.1)]) 1 0 cw3 (tgs (show stc 7 = (3, 0) by decide) (by decide)) c3 (mx2_word_2 ez2 l) (lw_V q632 q634 qs5 q152 q635) (by decide +kernel) (by decide) rfl rfl (Nat.le_of_ble_eq_true rfl) dX2_word_1 rfl ?_
  refine gx_aload_n 4 1 dX2_word_4 rfl ?_
  obtain ⟨g5, h⟩ := gd_e h
  obtain ⟨z4, ez4, h⟩ := opt_e h
  refine gx_callV (As := [.ref (ad x0 a1)]) (rest := []) (st' := [J z4.1]) 5 1 cw22 g5 (mj6_equals ez4 l) (lw_V q736 q737 q738 q162 q739) (by decide +kernel) (by decide) rfl rfl (Nat.le_of_ble_eq_true rfl) dX2_word_5 rfl ?_
  refine gx_if_ne 8 21 dX2_word_8 (by decide) (fun c6 => ?_) (fun c6 => ?_)
  · replace h := if_f h c6
    exact gx_vret 21 dX2_word_21 h
  · replace h := if_t h c6
    refine gx_aload_n 11 0 dX2_word_11 rfl ?_
    refine gx_iconst 12 dX2_word_12 ?_
    refine gx_aload_n 13 0 dX2_word_13 rfl ?_
    refine gx_get (t := 3) (k := 3) (v := J (z4.2 7 3)) 14 cw3 (by decide) (tgs (show stc 7 = (3, 0) by decide) (by decide)) q355 same_f rfl dX2_word_14 ?_
    obtain ⟨z7, ez7, h⟩ := opt_e h
    refine gx_callV (As := [J 1, J (z4.2 7 3)]) (rest := []) (st' := [.ref (ad x0 z7.1)]) 17 2 cw3 (tgs (show stc 7 = (3, 0) by decide) (by decide)) (mx2_wrong ez7 l) (lw_V q647 q649 qs8 q152 q650) (by decide +kernel) (by decide) rfl rfl (Nat.le_of_ble_eq_true rfl) dX2_word_17 rfl ?_
    obtain ⟨g8, h⟩ := gd_e h
    rw [g8]
    exact gx_athrowE 20 rfl rfl (tgs (show stc 8 = (4, 0) by decide) (by decide)) cw4 dX2_word_20 h
/-! VerbAtDusk$Reader.number -/
noncomputable def x2_number_L34 (k101 : Int → Int → Int → XS → Option RX) (k61 : XS → Option RX) : Nat → Int → Int → Int → XS → Option RX
  | 0, _, _, _, _ => none
  | n + 1, x1_10, x2_11, x3_12, s13 =>
    Option.bind (x2_byteAt (s13 7 2) s13) fun z19 =>
    Option.bind (x0_isDigit z19.1 z19.2) fun z20 =>
    if i32 z20.1 = 0 then
      k101 x1_10 x2_11 x3_12 z20.2
    else
      if i32 ((z20.2 7 2) - (z20.2 7 3)) = i32 4 then
        k61 z20.2
      else
        Option.bind (x2_byteAt (z20.2 7 2) z20.2) fun z23 =>
        bnd (((10 * x3_12) + z23.1) - 48) fun x3_24 =>
        bnd (ux z23.2 7 2 ((z23.2 7 2) + 1)) fun s25 =>
        x2_number_L34 k101 k61 n x1_10 x2_11 x3_24 s25
noncomputable def x2_number (a1 : Int) (a2 : Int) (s0 : XS) : Option RX :=
  Option.bind (x2_here s0) fun z3 =>
  Option.bind (x0_isDigit z3.1 z3.2) fun z4 =>
  if i32 z4.1 = 0 then
    Option.bind (x2_wrong 1 (z4.2 7 2) z4.2) fun z37 =>
    gd (z37.1 = 8) <|
    some (1, 0, z37.2)
  else
    Option.bind (x2_parted z4.2) fun z6 =>
    if z6.1 = 0 then
    bnd (ux z6.2.2 7 3 (z6.2.2 7 2)) fun s8 =>
    bnd 0 fun x3_9 =>
    x2_number_L34
      (fun (x1_26 : Int) (x2_27 : Int) (x3_28 : Int) (s29 : XS) =>
        Option.bind (x0_is x3_28 x1_26 x2_27 s29) fun z30 =>
        if i32 z30.1 = 0 then
          Option.bind (x2_wrong 2 (z30.2 7 3) z30.2) fun z32 =>
          gd (z32.1 = 8) <|
          some (1, 0, z32.2)
        else
          some (0, x3_28, z30.2))
      (fun (s34 : XS) =>
        Option.bind (x2_wrong 1 (s34 7 2) s34) fun z35 =>
        gd (z35.1 = 8) <|
        some (1, 0, z35.2))
      FU a1 a2 x3_9 s8
    else some (1, 0, z6.2.2)
theorem wx2_number_L34 {l : Launch} {x0 : Nat} {D : XD} {cN sN : Nat} {res : RX} {k101 : Int → Int → Int → XS → Option RX} {k61 : XS → Option RX} (hk101 : ∀ (x1_14 : Int) (x2_15 : Int) (x3_16 : Int) (s17 : XS), k101 x1_14 x2_15 x3_16 s17 = some res → GX l cX2_number "VerbAtDusk$Reader" 4 (some .int) "number" [] x0 D true 1 3 cN sN res s17 101 [(0, .ref (ad x0 7)), (1, J x1_14), (2, J x2_15), (3, J x3_16)] []) (hk61 : ∀ (s18 : XS), k61 s18 = some res → GX l cX2_number "VerbAtDusk$Reader" 4 (some .int) "number" [] x0 D true 1 3 cN sN res s18 61 [(0, .ref (ad x0 7))] []) : ∀ (n : Nat) (x1_10 : Int) (x2_11 : Int) (x3_12 : Int) (s13 : XS), x2_number_L34 k101 k61 n x1_10 x2_11 x3_12 s13 = some res → GX l cX2_number "VerbAtDusk$Reader" 4 (some .int) "number" [] x0 D true 1 3 cN sN res s13 34 [(0, .ref (ad x0 7)), (1, J x1_10), (2, J x2_11), (3, J x3_12)] [] := by
  intro n
  induction n with
  | zero =>
    intro x1_10 x2_11 x3_12 s13 h
    cases h
  | succ n ih =>
    intro x1_10 x2_11 x3_12 s13 h
    rw [x2_number_L34] at h
    refine gx_aload_n 34 0 dX2_number_34 rfl ?_
    refine gx_aload_n 35 0 dX2_number_35 rfl ?_
    refine gx_get (t := 3) (k := 2) (v := J (s13 7 2)) 36 cw3 (by decide) (tgs (show stc 7 = (3, 0) by decide) (by decide)) q354 same_f rfl dX2_number_36 ?_
    obtain ⟨z19, ez19, h⟩ := opt_e h
    refine gx_callV (As := [J (s13 7 2)]) (rest := []) (st' := [J z19.1]) 39 1 cw3 (tgs (show stc 7 = (3, 0) by decide) (by decide)) (mx2_byteAt ez19 l) (lw_V q640 q642 qs7 q152 q643) (by decide +kernel) (by decide) rfl rfl (Nat.le_of_ble_eq_true rfl) dX2_number_39 rfl ?_
    obtain ⟨z20, ez20, h⟩ := opt_e h
    refine gx_callSN (As := [J z19.1]) (rest := []) (st' := [J z20.1]) 42 1 (mx0_isDigit ez20 l) q657 q147 q655 q656 (by decide +kernel) (by decide) rfl rfl (Nat.le_of_ble_eq_true rfl) dX2_number_42 rfl ?_
    refine gx_if_eq 45 101 dX2_number_45 (by decide) (fun c21 => ?_) (fun c21 => ?_)
    · replace h := if_t h c21
      refine gx_sub [0, 1, 2, 3] rfl ?_
      exact hk101 _ _ _ _ h
    · replace h := if_f h c21
      refine gx_aload_n 48 0 dX2_number_48 rfl ?_
      refine gx_get (t := 3) (k := 2) (v := J (z20.2 7 2)) 49 cw3 (by decide) (tgs (show stc 7 = (3, 0) by decide) (by decide)) q354 same_f rfl dX2_number_49 ?_
      refine gx_aload_n 52 0 dX2_number_52 rfl ?_
      refine gx_get (t := 3) (k := 3) (v := J (z20.2 7 3)) 53 cw3 (by decide) (tgs (show stc 7 = (3, 0) by decide) (by decide)) q355 same_f rfl dX2_number_53 ?_
      refine gx_isub 56 dX2_number_56 ?_
      refine gx_iconst 57 dX2_number_57 ?_
      refine gx_icmp_ne 58 71 dX2_number_58 (by decide) (fun c22 => ?_) (fun c22 => ?_)
      · replace h := if_f h c22
        refine gx_bipush 71 dX2_number_71 (by decide) ?_
        refine gx_iload_n 73 3 dX2_number_73 rfl ?_
        refine gx_imul 74 dX2_number_74 ?_
        refine gx_aload_n 75 0 dX2_number_75 rfl ?_
        refine gx_aload_n 76 0 dX2_number_76 rfl ?_
        refine gx_get (t := 3) (k := 2) (v := J (z20.2 7 2)) 77 cw3 (by decide) (tgs (show stc 7 = (3, 0) by decide) (by decide)) q354 same_f rfl dX2_number_77 ?_
        obtain ⟨z23, ez23, h⟩ := opt_e h
        refine gx_callV (As := [J (z20.2 7 2)]) (rest := [J (10 * x3_12)]) (st' := [J z23.1, J (10 * x3_12)]) 80 1 cw3 (tgs (show stc 7 = (3, 0) by decide) (by decide)) (mx2_byteAt ez23 l) (lw_V q640 q642 qs7 q152 q643) (by decide +kernel) (by decide) rfl rfl (Nat.le_of_ble_eq_true rfl) dX2_number_80 rfl ?_
        refine gx_iadd 83 dX2_number_83 ?_
        refine gx_bipush 84 dX2_number_84 (by decide) ?_
        refine gx_isub 86 dX2_number_86 ?_
        obtain ⟨x3_24, ex3_24, h⟩ := bnd_e h
        refine gx_istore_n 87 [(3, J x3_24), (0, .ref (ad x0 7)), (1, J x1_10), (2, J x2_11)] dX2_number_87 (by decide) ex3_24 rfl ?_
        refine gx_aload_n 88 1 dX2_number_88 rfl ?_
        refine gx_dup 89 dX2_number_89 rfl ?_
        refine gx_get (t := 3) (k := 2) (v := J (z23.2 7 2)) 90 cw3 (by decide) (tgs (show stc 7 = (3, 0) by decide) (by decide)) q354 same_f rfl dX2_number_90 ?_
        refine gx_iconst 93 dX2_number_93 ?_
        refine gx_iadd 94 dX2_number_94 ?_
        obtain ⟨s25, es25, h⟩ := bnd_e h
        refine gx_put (t := 3) (k := 2) (x := ((z23.2 7 2) + 1)) (ty := .int) 95 cw3 (by decide) (tgs (show stc 7 = (3, 0) by decide) (by decide)) (st0 (show stc 7 = (3, 0) by decide) (by decide)) (stm (show stc 7 = (3, 0) by decide) (by decide)) q354 same_f rfl (by decide +kernel) rfl rfl (congrArg J (ux_s _ _ _ _)) es25 dX2_number_95 ?_
        refine gx_goto 98 34 dX2_number_98 (by decide) ?_
        refine gx_sub [1, 2, 3, 0] rfl ?_
        exact ih _ _ _ _ h
      · replace h := if_t h c22
        refine gx_sub [0] rfl ?_
        exact hk61 _ h
theorem mx2_number {x0 : Nat} {D : XD} {a1 : Int} {a2 : Int} {s0 : XS} {res : RX} (h : x2_number a1 a2 s0 = some res) (l : Launch) : XMet l yX2_number cX2_number 4 (some .int) 3 true x0 D [.ref (ad x0 7), J a1, J a2] s0 1 res := by
  refine XMet.ofn [(0, .ref (ad x0 7)), (1, J a1), (2, J a2)] "VerbAtDusk$Reader" "number" rfl rfl (by decide) (Nat.le_of_ble_eq_true rfl) rfl ?_
  unfold x2_number at h
  generalize nC s0 = cN
  generalize nS s0 = sN
  refine gx_aload_n 0 0 dX2_number_0 rfl ?_
  obtain ⟨z3, ez3, h⟩ := opt_e h
  refine gx_callV (As := []) (rest := []) (st' := [J z3.1]) 1 0 cw3 (tgs (show stc 7 = (3, 0) by decide) (by decide)) (mx2_here ez3 l) (lw_V q636 q638 qs6 q152 q639) (by decide +kernel) (by decide) rfl rfl (Nat.le_of_ble_eq_true rfl) dX2_number_1 rfl ?_
  obtain ⟨z4, ez4, h⟩ := opt_e h
  refine gx_callSN (As := [J z3.1]) (rest := []) (st' := [J z4.1]) 4 1 (mx0_isDigit ez4 l) q657 q147 q655 q656 (by decide +kernel) (by decide) rfl rfl (Nat.le_of_ble_eq_true rfl) dX2_number_4 rfl ?_
  refine gx_if_ne 7 20 dX2_number_7 (by decide) (fun c5 => ?_) (fun c5 => ?_)
  · replace h := if_f h c5
    refine gx_aload_n 20 0 dX2_number_20 rfl ?_
    obtain ⟨z6, ez6, h⟩ := opt_e h
    by_cases c7 : z6.1 = 0
    rotate_left
    · replace h := if_f h c7
      exact gx_callTX (As := []) (rest := []) 21 0 rfl cw3 (tgs (show stc 7 = (3, 0) by decide) (by decide)) c7 (mx2_parted ez6 l) (lw_V q651 q653 qs9 q152 q654) (by decide +kernel) (by decide) rfl rfl (Nat.le_of_ble_eq_true rfl) dX2_number_21 h
    replace h := if_t h c7
    refine gx_callT (As := []) (rest := []) (st' := []) 21 0 cw3 (tgs (show stc 7 = (3, 0) by decide) (by decide)) c7 (mx2_parted ez6 l) (lw_V q651 q653 qs9 q152 q654) (by decide +kernel) (by decide) rfl rfl (Nat.le_of_ble_eq_true rfl) dX2_number_21 rfl ?_
    refine gx_aload_n 24 0 dX2_number_24 rfl ?_
    refine gx_aload_n 25 0 dX2_number_25 rfl ?_
    refine gx_get (t := 3) (k := 2) (v := J (z6.2.2 7 2)) 26 cw3 (by decide) (tgs (show stc 7 = (3, 0) by decide) (by decide)) q354 same_f rfl dX2_number_26 ?_
    obtain ⟨s8, es8, h⟩ := bnd_e h
    refine gx_put (t := 3) (k := 3) (x := (z6.2.2 7 2)) (ty := .int) 29 cw3 (by decide) (tgs (show stc 7 = (3, 0) by decide) (by decide)) (st0 (show stc 7 = (3, 0) by decide) (by decide)) (stm (show stc 7 = (3, 0) by decide) (by decide)) q355 same_f rfl (by decide +kernel) rfl rfl (congrArg J (ux_s _ _ _ _)) es8 dX2_number_29 ?_
    refine gx_iconst 32 dX2_number_32 ?_
    obtain ⟨x3_9, ex3_9, h⟩ := bnd_e h
    refine gx_istore_n 33 [(3, J x3_9), (0, .ref (ad x0 7)), (1, J a1), (2, J a2)] dX2_number_33 (by decide) ex3_9 rfl ?_
    refine gx_sub [1, 2, 3, 0] rfl ?_
    refine wx2_number_L34 (fun x1_26 x2_27 x3_28 s29 h => ?_) (fun s34 h => ?_) FU _ _ _ _ h
    · refine gx_iload_n 101 3 dX2_number_101 rfl ?_
      refine gx_iload_n 102 1 dX2_number_102 rfl ?_
      refine gx_iload_n 103 2 dX2_number_103 rfl ?_
      obtain ⟨z30, ez30, h⟩ := opt_e h
      refine gx_callSN (As := [J x3_28, J x1_26, J x2_27]) (rest := []) (st' := [J z30.1]) 104 3 (mx0_is ez30 l) q749 q147 q747 q748 (by decide +kernel) (by decide) rfl rfl (Nat.le_of_ble_eq_true rfl) dX2_number_104 rfl ?_
      refine gx_if_ne 107 120 dX2_number_107 (by decide) (fun c31 => ?_) (fun c31 => ?_)
      · replace h := if_f h c31
        refine gx_iload_n 120 3 dX2_number_120 rfl ?_
        exact gx_iret 121 dX2_number_121 h
      · replace h := if_t h c31
        refine gx_aload_n 110 0 dX2_number_110 rfl ?_
        refine gx_iconst 111 dX2_number_111 ?_
        refine gx_aload_n 112 0 dX2_number_112 rfl ?_
        refine gx_get (t := 3) (k := 3) (v := J (z30.2 7 3)) 113 cw3 (by decide) (tgs (show stc 7 = (3, 0) by decide) (by decide)) q355 same_f rfl dX2_number_113 ?_
        obtain ⟨z32, ez32, h⟩ := opt_e h
        refine gx_callV (As := [J 2, J (z30.2 7 3)]) (rest := []) (st' := [.ref (ad x0 z32.1)]) 116 2 cw3 (tgs (show stc 7 = (3, 0) by decide) (by decide)) (mx2_wrong ez32 l) (lw_V q647 q649 qs8 q152 q650) (by decide +kernel) (by decide) rfl rfl (Nat.le_of_ble_eq_true rfl) dX2_number_116 rfl ?_
        obtain ⟨g33, h⟩ := gd_e h
        rw [g33]
        exact gx_athrowE 119 rfl rfl (tgs (show stc 8 = (4, 0) by decide) (by decide)) cw4 dX2_number_119 h
    · refine gx_aload_n 61 0 dX2_number_61 rfl ?_
      refine gx_iconst 62 dX2_number_62 ?_
      refine gx_aload_n 63 0 dX2_number_63 rfl ?_
      refine gx_get (t := 3) (k := 2) (v := J (s34 7 2)) 64 cw3 (by decide) (tgs (show stc 7 = (3, 0) by decide) (by decide)) q354 same_f rfl dX2_number_64 ?_
      obtain ⟨z35, ez35, h⟩ := opt_e h
      refine gx_callV (As := [J 1, J (s34 7 2)]) (rest := []) (st' := [.ref (ad x0 z35.1)]) 67 2 cw3 (tgs (show stc 7 = (3, 0) by decide) (by decide)) (mx2_wrong ez35 l) (lw_V q647 q649 qs8 q152 q650) (by decide +kernel) (by decide) rfl rfl (Nat.le_of_ble_eq_true rfl) dX2_number_67 rfl ?_
      obtain ⟨g36, h⟩ := gd_e h
      rw [g36]
      exact gx_athrowE 70 rfl rfl (tgs (show stc 8 = (4, 0) by decide) (by decide)) cw4 dX2_number_70 h
  · replace h := if_t h c5
    refine gx_aload_n 10 0 dX2_number_10 rfl ?_
    refine gx_iconst 11 dX2_number_11 ?_
    refine gx_aload_n 12 0 dX2_number_12 rfl ?_
    refine gx_get (t := 3) (k := 2) (v := J (z4.2 7 2)) 13 cw3 (by decide) (tgs (show stc 7 = (3, 0) by decide) (by decide)) q354 same_f rfl dX2_number_13 ?_
    obtain ⟨z37, ez37, h⟩ := opt_e h
    refine gx_callV (As := [J 1, J (z4.2 7 2)]) (rest := []) (st' := [.ref (ad x0 z37.1)]) 16 2 cw3 (tgs (show stc 7 = (3, 0) by decide) (by decide)) (mx2_wrong ez37 l) (lw_V q647 q649 qs8 q152 q650) (by decide +kernel) (by decide) rfl rfl (Nat.le_of_ble_eq_true rfl) dX2_number_16 rfl ?_
    obtain ⟨g38, h⟩ := gd_e h
    rw [g38]
    exact gx_athrowE 19 rfl rfl (tgs (show stc 8 = (4, 0) by decide) (by decide)) cw4 dX2_number_19 h
/-! VerbAtDusk$Reader.must -/
noncomputable def x2_must (a1 : Int) (s0 : XS) : Option RX :=
  Option.bind (x2_here s0) fun z2 =>
  if i32 z2.1 = i32 a1 then
    bnd (ux z2.2 7 2 ((z2.2 7 2) + 1)) fun s4 =>
    some (0, 0, s4)
  else
    Option.bind (x2_wrong 1 (z2.2 7 2) z2.2) fun z5 =>
    gd (z5.1 = 8) <|
    some (1, 0, z5.2)
theorem mx2_must {x0 : Nat} {D : XD} {a1 : Int} {s0 : XS} {res : RX} (h : x2_must a1 s0 = some res) (l : Launch) : XMet l yX2_must cX2_must 2 none 3 true x0 D [.ref (ad x0 7), J a1] s0 0 res := by
  refine XMet.ofn [(0, .ref (ad x0 7)), (1, J a1)] "VerbAtDusk$Reader" "must" rfl rfl (by decide) (Nat.le_of_ble_eq_true rfl) rfl ?_
  unfold x2_must at h
  generalize nC s0 = cN
  generalize nS s0 = sN
  refine gx_aload_n 0 0 dX2_must_0 rfl ?_
  obtain ⟨z2, ez2, h⟩ := opt_e h
  refine gx_callV (As := []) (rest := []) (st' := [J z2.1]) 1 0 cw3 (tgs (show stc 7 = (3, 0) by decide) (by decide)) (mx2_here ez2 l) (lw_V q636 q638 qs6 q152 q639) (by decide +kernel) (by decide) rfl rfl (Nat.le_of_ble_eq_true rfl) dX2_must_1 rfl ?_
  refine gx_iload_n 4 1 dX2_must_4 rfl ?_
  refine gx_icmp_eq 5 18 dX2_must_5 (by decide) (fun c3 => ?_) (fun c3 => ?_)
  · replace h := if_t h c3
    refine gx_aload_n 18 0 dX2_must_18 rfl ?_
    refine gx_dup 19 dX2_must_19 rfl ?_
    refine gx_get (t := 3) (k := 2) (v := J (z2.2 7 2)) 20 cw3 (by decide) (tgs (show stc 7 = (3, 0) by decide) (by decide)) q354 same_f rfl dX2_must_20 ?_
    refine gx_iconst 23 dX2_must_23 ?_
    refine gx_iadd 24 dX2_must_24 ?_
    obtain ⟨s4, es4, h⟩ := bnd_e h
    refine gx_put (t := 3) (k := 2) (x := ((z2.2 7 2) + 1)) (ty := .int) 25 cw3 (by decide) (tgs (show stc 7 = (3, 0) by decide) (by decide)) (st0 (show stc 7 = (3, 0) by decide) (by decide)) (stm (show stc 7 = (3, 0) by decide) (by decide)) q354 same_f rfl (by decide +kernel) rfl rfl (congrArg J (ux_s _ _ _ _)) es4 dX2_must_25 ?_
    exact gx_vret 28 dX2_must_28 h
  · replace h := if_f h c3
    refine gx_aload_n 8 0 dX2_must_8 rfl ?_
    refine gx_iconst 9 dX2_must_9 ?_
    refine gx_aload_n 10 0 dX2_must_10 rfl ?_
    refine gx_get (t := 3) (k := 2) (v := J (z2.2 7 2)) 11 cw3 (by decide) (tgs (show stc 7 = (3, 0) by decide) (by decide)) q354 same_f rfl dX2_must_11 ?_
    obtain ⟨z5, ez5, h⟩ := opt_e h
    refine gx_callV (As := [J 1, J (z2.2 7 2)]) (rest := []) (st' := [.ref (ad x0 z5.1)]) 14 2 cw3 (tgs (show stc 7 = (3, 0) by decide) (by decide)) (mx2_wrong ez5 l) (lw_V q647 q649 qs8 q152 q650) (by decide +kernel) (by decide) rfl rfl (Nat.le_of_ble_eq_true rfl) dX2_must_14 rfl ?_
    obtain ⟨g6, h⟩ := gd_e h
    rw [g6]
    exact gx_athrowE 17 rfl rfl (tgs (show stc 8 = (4, 0) by decide) (by decide)) cw4 dX2_must_17 h
/-! VerbAtDusk$Reader.most -/
noncomputable def x2_most (a1 : Int) (a2 : Int) (s0 : XS) : Option RX :=
  if i32 a1 = 0 then
    some (0, 0, s0)
  else
    Option.bind (x2_wrong 5 a2 s0) fun z4 =>
    gd (z4.1 = 8) <|
    some (1, 0, z4.2)
theorem mx2_most {x0 : Nat} {D : XD} {a1 : Int} {a2 : Int} {s0 : XS} {res : RX} (h : x2_most a1 a2 s0 = some res) (l : Launch) : XMet l yX2_most cX2_most 3 none 2 true x0 D [.ref (ad x0 7), J a1, J a2] s0 0 res := by
  refine XMet.ofn [(0, .ref (ad x0 7)), (1, J a1), (2, J a2)] "VerbAtDusk$Reader" "most" rfl rfl (by decide) (Nat.le_of_ble_eq_true rfl) rfl ?_
  unfold x2_most at h
  generalize nC s0 = cN
  generalize nS s0 = sN
  refine gx_iload_n 0 1 dX2_most_0 rfl ?_
  refine gx_if_eq 1 11 dX2_most_1 (by decide) (fun c3 => ?_) (fun c3 => ?_)
  · replace h := if_t h c3
    exact gx_vret 11 dX2_most_11 h
  · replace h := if_f h c3
    refine gx_aload_n 4 0 dX2_most_4 rfl ?_
    refine gx_iconst 5 dX2_most_5 ?_
    refine gx_iload_n 6 2 dX2_most_6 rfl ?_
    obtain ⟨z4, ez4, h⟩ := opt_e h
    refine gx_callV (As := [J 5, J a2]) (rest := []) (st' := [.ref (ad x0 z4.1)]) 7 2 cw3 (tgs (show stc 7 = (3, 0) by decide) (by decide)) (mx2_wrong ez4 l) (lw_V q647 q649 qs8 q152 q650) (by decide +kernel) (by decide) rfl rfl (Nat.le_of_ble_eq_true rfl) dX2_most_7 rfl ?_
    obtain ⟨g5, h⟩ := gd_e h
    rw [g5]
    exact gx_athrowE 10 rfl rfl (tgs (show stc 8 = (4, 0) by decide) (by decide)) cw4 dX2_most_10 h
/-! VerbAtDusk$Reader.name -/
noncomputable def x2_name (s0 : XS) : Option RX :=
  Option.bind (x2_word_2 s0) fun z1 =>
  if z1.1 = 0 then
  bnd z1.2.1 fun x1_3 =>
  gd (¬ (z1.2.2 (-1) 100) = -1) <|
  Option.bind (x0_find x1_3 (z1.2.2 (-1) 100) z1.2.2) fun z5 =>
  if i32 z5.1 = i32 (-1) then
    gd (tg true z5.2 x1_3 = 22) <|
    Option.bind (j6_length true x1_3 z5.2) fun z7 =>
    if i32 z7.1 ≤ i32 6 then
      some (0, x1_3, z7.2)
    else
      Option.bind (x2_wrong 1 ((z7.2 7 3) + 6) z7.2) fun z10 =>
      gd (z10.1 = 8) <|
      some (1, 0, z10.2)
  else
    Option.bind (x2_wrong 1 (z5.2 7 3) z5.2) fun z12 =>
    gd (z12.1 = 8) <|
    some (1, 0, z12.2)
  else some (1, 0, z1.2.2)
theorem mx2_name {x0 : Nat} {D : XD} {s0 : XS} {res : RX} (h : x2_name s0 = some res) (l : Launch) : XMet l yX2_name cX2_name 2 (some (.object "java/lang/String")) 7 true x0 D [.ref (ad x0 7)] s0 3 res := by
  refine XMet.ofn [(0, .ref (ad x0 7))] "VerbAtDusk$Reader" "name" rfl rfl (by decide) (Nat.le_of_ble_eq_true rfl) rfl ?_
  unfold x2_name at h
  generalize nC s0 = cN
  generalize nS s0 = sN
  refine gx_aload_n 0 0 dX2_name_0 rfl ?_
  obtain ⟨z1, ez1, h⟩ := opt_e h
  by_cases c2 : z1.1 = 0
  rotate_left
  · replace h := if_f h c2
    exact gx_callTX (As := []) (rest := []) 1 0 rfl cw3 (tgs (show stc 7 = (3, 0) by decide) (by decide)) c2 (mx2_word_2 ez1 l) (lw_V q632 q634 qs5 q152 q635) (by decide +kernel) (by decide) rfl rfl (Nat.le_of_ble_eq_true rfl) dX2_name_1 h
  replace h := if_t h c2
  refine gx_callT (As := []) (rest := []) (st' := [.ref (ad x0 z1.2.1)]) 1 0 cw3 (tgs (show stc 7 = (3, 0) by decide) (by decide)) c2 (mx2_word_2 ez1 l) (lw_V q632 q634 qs5 q152 q635) (by decide +kernel) (by decide) rfl rfl (Nat.le_of_ble_eq_true rfl) dX2_name_1 rfl ?_
  obtain ⟨x1_3, ex1_3, h⟩ := bnd_e h
  refine gx_astore_nv 4 [(1, .ref (ad x0 x1_3)), (0, .ref (ad x0 7))] dX2_name_4 (by decide) ex1_3 rfl ?_
  refine gx_aload_n 5 0 dX2_name_5 rfl ?_
  obtain ⟨g4, h⟩ := gd_e h
  refine gx_getsR 6 0 (List.mem_of_getElem? (i := 1) rfl) q836 g4 dX2_name_6 ?_
  obtain ⟨z5, ez5, h⟩ := opt_e h
  refine gx_callSN (As := [.ref (ad x0 x1_3), .ref (ad x0 (z1.2.2 (-1) 100))]) (rest := []) (st' := [J z5.1]) 9 2 (mx0_find ez5 l) q840 q147 q838 q839 (by decide +kernel) (by decide) rfl rfl (Nat.le_of_ble_eq_true rfl) dX2_name_9 rfl ?_
  refine gx_iconst 12 dX2_name_12 ?_
  refine gx_icmp_eq 13 26 dX2_name_13 (by decide) (fun c6 => ?_) (fun c6 => ?_)
  · replace h := if_t h c6
    refine gx_aload_n 26 0 dX2_name_26 rfl ?_
    obtain ⟨g8, h⟩ := gd_e h
    obtain ⟨z7, ez7, h⟩ := opt_e h
    refine gx_callV (As := []) (rest := []) (st' := [J z7.1]) 27 0 cw22 g8 (mj6_length ez7 l) (lw_V q842 q843 q844 q162 q845) (by decide +kernel) (by decide) rfl rfl (Nat.le_of_ble_eq_true rfl) dX2_name_27 rfl ?_
    refine gx_bipush 30 dX2_name_30 (by decide) ?_
    refine gx_icmp_le 32 48 dX2_name_32 (by decide) (fun c9 => ?_) (fun c9 => ?_)
    · replace h := if_t h c9
      refine gx_aload_n 48 0 dX2_name_48 rfl ?_
      exact gx_aret 49 (Or.inl ⟨_, rfl⟩) dX2_name_49 h
    · replace h := if_f h c9
      refine gx_aload_n 35 1 dX2_name_35 rfl ?_
      refine gx_iconst 36 dX2_name_36 ?_
      refine gx_aload_n 37 1 dX2_name_37 rfl ?_
      refine gx_get (t := 3) (k := 3) (v := J (z7.2 7 3)) 38 cw3 (by decide) (tgs (show stc 7 = (3, 0) by decide) (by decide)) q355 same_f rfl dX2_name_38 ?_
      refine gx_bipush 41 dX2_name_41 (by decide) ?_
      refine gx_iadd 43 dX2_name_43 ?_
      obtain ⟨z10, ez10, h⟩ := opt_e h
      refine gx_callV (As := [J 1, J ((z7.2 7 3) + 6)]) (rest := []) (st' := [.ref (ad x0 z10.1)]) 44 2 cw3 (tgs (show stc 7 = (3, 0) by decide) (by decide)) (mx2_wrong ez10 l) (lw_V q647 q649 qs8 q152 q650) (by decide +kernel) (by decide) rfl rfl (Nat.le_of_ble_eq_true rfl) dX2_name_44 rfl ?_
      obtain ⟨g11, h⟩ := gd_e h
      rw [g11]
      exact gx_athrowE 47 rfl rfl (tgs (show stc 8 = (4, 0) by decide) (by decide)) cw4 dX2_name_47 h
  · replace h := if_f h c6
    refine gx_aload_n 16 1 dX2_name_16 rfl ?_
    refine gx_iconst 17 dX2_name_17 ?_
    refine gx_aload_n 18 1 dX2_name_18 rfl ?_
    refine gx_get (t := 3) (k := 3) (v := J (z5.2 7 3)) 19 cw3 (by decide) (tgs (show stc 7 = (3, 0) by decide) (by decide)) q355 same_f rfl dX2_name_19 ?_
    obtain ⟨z12, ez12, h⟩ := opt_e h
    refine gx_callV (As := [J 1, J (z5.2 7 3)]) (rest := []) (st' := [.ref (ad x0 z12.1)]) 22 2 cw3 (tgs (show stc 7 = (3, 0) by decide) (by decide)) (mx2_wrong ez12 l) (lw_V q647 q649 qs8 q152 q650) (by decide +kernel) (by decide) rfl rfl (Nat.le_of_ble_eq_true rfl) dX2_name_22 rfl ?_
    obtain ⟨g13, h⟩ := gd_e h
    rw [g13]
    exact gx_athrowE 25 rfl rfl (tgs (show stc 8 = (4, 0) by decide) (by decide)) cw4 dX2_name_25 h
/-! VerbAtDusk$Reader.fresh -/
noncomputable def x2_fresh (s0 : XS) : Option RX :=
  Option.bind (x2_name s0) fun z1 =>
  if z1.1 = 0 then
  bnd z1.2.1 fun x1_3 =>
  gd (¬ (z1.2.2 7 6) = -1) <|
  gd (tg true z1.2.2 (z1.2.2 7 6) = 2) <|
  Option.bind (x1_isNamed true (z1.2.2 7 6) x1_3 z1.2.2) fun z5 =>
  if i32 z5.1 = 0 then
    some (0, x1_3, z5.2)
  else
    Option.bind (x2_wrong 3 (z5.2 7 3) z5.2) fun z8 =>
    gd (z8.1 = 8) <|
    some (1, 0, z8.2)
  else some (1, 0, z1.2.2)
theorem mx2_fresh {x0 : Nat} {D : XD} {s0 : XS} {res : RX} (h : x2_fresh s0 = some res) (l : Launch) : XMet l yX2_fresh cX2_fresh 2 (some (.object "java/lang/String")) 8 true x0 D [.ref (ad x0 7)] s0 3 res := by
  refine XMet.ofn [(0, .ref (ad x0 7))] "VerbAtDusk$Reader" "fresh" rfl rfl (by decide) (Nat.le_of_ble_eq_true rfl) rfl ?_
  unfold x2_fresh at h
  generalize nC s0 = cN
  generalize nS s0 = sN
  refine gx_aload_n 0 0 dX2_fresh_0 rfl ?_
  obtain ⟨z1, ez1, h⟩ := opt_e h
  by_cases c2 : z1.1 = 0
  rotate_left
  · replace h := if_f h c2
    exact gx_callTX (As := []) (rest := []) 1 0 rfl cw3 (tgs (show stc 7 = (3, 0) by decide) (by decide)) c2 (mx2_name ez1 l) (lw_V q832 q834 qs15 q152 q835) (by decide +kernel) (by decide) rfl rfl (Nat.le_of_ble_eq_true rfl) dX2_fresh_1 h
  replace h := if_t h c2
  refine gx_callT (As := []) (rest := []) (st' := [.ref (ad x0 z1.2.1)]) 1 0 cw3 (tgs (show stc 7 = (3, 0) by decide) (by decide)) c2 (mx2_name ez1 l) (lw_V q832 q834 qs15 q152 q835) (by decide +kernel) (by decide) rfl rfl (Nat.le_of_ble_eq_true rfl) dX2_fresh_1 rfl ?_
  obtain ⟨x1_3, ex1_3, h⟩ := bnd_e h
  refine gx_astore_nv 4 [(1, .ref (ad x0 x1_3)), (0, .ref (ad x0 7))] dX2_fresh_4 (by decide) ex1_3 rfl ?_
  refine gx_aload_n 5 1 dX2_fresh_5 rfl ?_
  obtain ⟨g4, h⟩ := gd_e h
  refine gx_get (t := 3) (k := 6) (v := .ref (ad x0 (z1.2.2 7 6))) 6 cw3 (by decide) (tgs (show stc 7 = (3, 0) by decide) (by decide)) q358 same_f (rf_ne g4) dX2_fresh_6 ?_
  refine gx_aload_n 9 0 dX2_fresh_9 rfl ?_
  obtain ⟨g6, h⟩ := gd_e h
  obtain ⟨z5, ez5, h⟩ := opt_e h
  refine gx_callV (As := [.ref (ad x0 x1_3)]) (rest := []) (st' := [J z5.1]) 10 1 cw2 g6 (mx1_isNamed ez5 l) (lw_V q850 q851 q852 q148 q853) (by decide +kernel) (by decide) rfl rfl (Nat.le_of_ble_eq_true rfl) dX2_fresh_10 rfl ?_
  refine gx_if_eq 13 26 dX2_fresh_13 (by decide) (fun c7 => ?_) (fun c7 => ?_)
  · replace h := if_t h c7
    refine gx_aload_n 26 0 dX2_fresh_26 rfl ?_
    exact gx_aret 27 (Or.inl ⟨_, rfl⟩) dX2_fresh_27 h
  · replace h := if_f h c7
    refine gx_aload_n 16 1 dX2_fresh_16 rfl ?_
    refine gx_iconst 17 dX2_fresh_17 ?_
    refine gx_aload_n 18 1 dX2_fresh_18 rfl ?_
    refine gx_get (t := 3) (k := 3) (v := J (z5.2 7 3)) 19 cw3 (by decide) (tgs (show stc 7 = (3, 0) by decide) (by decide)) q355 same_f rfl dX2_fresh_19 ?_
    obtain ⟨z8, ez8, h⟩ := opt_e h
    refine gx_callV (As := [J 3, J (z5.2 7 3)]) (rest := []) (st' := [.ref (ad x0 z8.1)]) 22 2 cw3 (tgs (show stc 7 = (3, 0) by decide) (by decide)) (mx2_wrong ez8 l) (lw_V q647 q649 qs8 q152 q650) (by decide +kernel) (by decide) rfl rfl (Nat.le_of_ble_eq_true rfl) dX2_fresh_22 rfl ?_
    obtain ⟨g9, h⟩ := gd_e h
    rw [g9]
    exact gx_athrowE 25 rfl rfl (tgs (show stc 8 = (4, 0) by decide) (by decide)) cw4 dX2_fresh_25 h
/-! VerbAtDusk$Reader.number_2 -/
noncomputable def x2_number_2 (a1 : Int) (a2 : Int) (a3 : Int) (s0 : XS) : Option RX :=
  Option.bind (x2_word a1 s0) fun z4 =>
  if z4.1 = 0 then
  Option.bind (x2_number a2 a3 z4.2.2) fun z6 =>
  if z6.1 = 0 then
  some (0, z6.2.1, z6.2.2)
  else some (1, 0, z6.2.2)
  else some (1, 0, z4.2.2)
theorem mx2_number_2 {x0 : Nat} {D : XD} {a1 : Int} {a2 : Int} {a3 : Int} {s0 : XS} {res : RX} (h : x2_number_2 a1 a2 a3 s0 = some res) (l : Launch) : XMet l yX2_number_2 cX2_number_2 4 (some .int) 8 true x0 D [.ref (ad x0 7), .ref (ad x0 a1), J a2, J a3] s0 1 res := by
  refine XMet.ofn [(0, .ref (ad x0 7)), (1, .ref (ad x0 a1)), (2, J a2), (3, J a3)] "VerbAtDusk$Reader" "number" rfl rfl (by decide) (Nat.le_of_ble_eq_true rfl) rfl ?_
  unfold x2_number_2 at h
  generalize nC s0 = cN
  generalize nS s0 = sN
  refine gx_aload_n 0 0 dX2_number_2_0 rfl ?_
  refine gx_aload_n 1 1 dX2_number_2_1 rfl ?_
  obtain ⟨z4, ez4, h⟩ := opt_e h
  by_cases c5 : z4.1 = 0
  rotate_left
  · replace h := if_f h c5
    exact gx_callTX (As := [.ref (ad x0 a1)]) (rest := []) 2 1 rfl cw3 (tgs (show stc 7 = (3, 0) by decide) (by decide)) c5 (mx2_word ez4 l) (lw_V q628 q630 qs4 q152 q631) (by decide +kernel) (by decide) rfl rfl (Nat.le_of_ble_eq_true rfl) dX2_number_2_2 h
  replace h := if_t h c5
  refine gx_callT (As := [.ref (ad x0 a1)]) (rest := []) (st' := []) 2 1 cw3 (tgs (show stc 7 = (3, 0) by decide) (by decide)) c5 (mx2_word ez4 l) (lw_V q628 q630 qs4 q152 q631) (by decide +kernel) (by decide) rfl rfl (Nat.le_of_ble_eq_true rfl) dX2_number_2_2 rfl ?_
  refine gx_aload_n 5 0 dX2_number_2_5 rfl ?_
  refine gx_iload_n 6 2 dX2_number_2_6 rfl ?_
  refine gx_iload_n 7 3 dX2_number_2_7 rfl ?_
  obtain ⟨z6, ez6, h⟩ := opt_e h
  by_cases c7 : z6.1 = 0
  rotate_left
  · replace h := if_f h c7
    exact gx_callTX (As := [J a2, J a3]) (rest := []) 8 2 rfl cw3 (tgs (show stc 7 = (3, 0) by decide) (by decide)) c7 (mx2_number ez6 l) (lw_V q743 q745 qs10 q152 q746) (by decide +kernel) (by decide) rfl rfl (Nat.le_of_ble_eq_true rfl) dX2_number_2_8 h
  replace h := if_t h c7
  refine gx_callT (As := [J a2, J a3]) (rest := []) (st' := [J z6.2.1]) 8 2 cw3 (tgs (show stc 7 = (3, 0) by decide) (by decide)) c7 (mx2_number ez6 l) (lw_V q743 q745 qs10 q152 q746) (by decide +kernel) (by decide) rfl rfl (Nat.le_of_ble_eq_true rfl) dX2_number_2_8 rfl ?_
  exact gx_iret 11 dX2_number_2_11 h
/-! VerbAtDusk$Reader.opens -/
noncomputable def x2_opens (a1 : Int) (s0 : XS) : Option RX :=
  if i32 (s0 7 4) = i32 6 then
    Option.bind (x2_wrong 4 a1 s0) fun z4 =>
    gd (z4.1 = 8) <|
    some (1, 0, z4.2)
  else
    bnd (ux s0 7 4 ((s0 7 4) + 1)) fun s3 =>
    some (0, 0, s3)
theorem mx2_opens {x0 : Nat} {D : XD} {a1 : Int} {s0 : XS} {res : RX} (h : x2_opens a1 s0 = some res) (l : Launch) : XMet l yX2_opens cX2_opens 2 none 2 true x0 D [.ref (ad x0 7), J a1] s0 0 res := by
  refine XMet.ofn [(0, .ref (ad x0 7)), (1, J a1)] "VerbAtDusk$Reader" "opens" rfl rfl (by decide) (Nat.le_of_ble_eq_true rfl) rfl ?_
  unfold x2_opens at h
  generalize nC s0 = cN
  generalize nS s0 = sN
  refine gx_aload_n 0 0 dX2_opens_0 rfl ?_
  refine gx_get (t := 3) (k := 4) (v := J (s0 7 4)) 1 cw3 (by decide) (tgs (show stc 7 = (3, 0) by decide) (by decide)) q356 same_f rfl dX2_opens_1 ?_
  refine gx_bipush 4 dX2_opens_4 (by decide) ?_
  refine gx_icmp_ne 6 16 dX2_opens_6 (by decide) (fun c2 => ?_) (fun c2 => ?_)
  · replace h := if_f h c2
    refine gx_aload_n 16 0 dX2_opens_16 rfl ?_
    refine gx_dup 17 dX2_opens_17 rfl ?_
    refine gx_get (t := 3) (k := 4) (v := J (s0 7 4)) 18 cw3 (by decide) (tgs (show stc 7 = (3, 0) by decide) (by decide)) q356 same_f rfl dX2_opens_18 ?_
    refine gx_iconst 21 dX2_opens_21 ?_
    refine gx_iadd 22 dX2_opens_22 ?_
    obtain ⟨s3, es3, h⟩ := bnd_e h
    refine gx_put (t := 3) (k := 4) (x := ((s0 7 4) + 1)) (ty := .int) 23 cw3 (by decide) (tgs (show stc 7 = (3, 0) by decide) (by decide)) (st0 (show stc 7 = (3, 0) by decide) (by decide)) (stm (show stc 7 = (3, 0) by decide) (by decide)) q356 same_f rfl (by decide +kernel) rfl rfl (congrArg J (ux_s _ _ _ _)) es3 dX2_opens_23 ?_
    exact gx_vret 26 dX2_opens_26 h
  · replace h := if_t h c2
    refine gx_aload_n 9 0 dX2_opens_9 rfl ?_
    refine gx_iconst 10 dX2_opens_10 ?_
    refine gx_iload_n 11 1 dX2_opens_11 rfl ?_
    obtain ⟨z4, ez4, h⟩ := opt_e h
    refine gx_callV (As := [J 4, J a1]) (rest := []) (st' := [.ref (ad x0 z4.1)]) 12 2 cw3 (tgs (show stc 7 = (3, 0) by decide) (by decide)) (mx2_wrong ez4 l) (lw_V q647 q649 qs8 q152 q650) (by decide +kernel) (by decide) rfl rfl (Nat.le_of_ble_eq_true rfl) dX2_opens_12 rfl ?_
    obtain ⟨g5, h⟩ := gd_e h
    rw [g5]
    exact gx_athrowE 15 rfl rfl (tgs (show stc 8 = (4, 0) by decide) (by decide)) cw4 dX2_opens_15 h
/-! VerbAtDusk$Reader.passes -/
noncomputable def x2_passes (a1 : Int) (s0 : XS) : Option RX :=
  bnd (s0 7 2) fun x2_2 =>
  Option.bind (x2_here s0) fun z3 =>
  Option.bind (x0_isLetter z3.1 z3.2) fun z4 =>
  if i32 z4.1 = 0 then
    some (0, 0, z4.2)
  else
    Option.bind (x2_word_2 z4.2) fun z6 =>
    if z6.1 = 0 then
    gd (tg true z6.2.2 z6.2.1 = 22) <|
    Option.bind (j6_equals true z6.2.1 a1 z6.2.2) fun z8 =>
    if i32 z8.1 = 0 then
      bnd (ux z8.2 7 2 x2_2) fun s11 =>
      some (0, 0, s11)
    else
      some (0, 1, z8.2)
    else some (1, 0, z6.2.2)
theorem mx2_passes {x0 : Nat} {D : XD} {a1 : Int} {s0 : XS} {res : RX} (h : x2_passes a1 s0 = some res) (l : Launch) : XMet l yX2_passes cX2_passes 3 (some .boolean) 7 true x0 D [.ref (ad x0 7), .ref (ad x0 a1)] s0 1 res := by
  refine XMet.ofn [(0, .ref (ad x0 7)), (1, .ref (ad x0 a1))] "VerbAtDusk$Reader" "passes" rfl rfl (by decide) (Nat.le_of_ble_eq_true rfl) rfl ?_
  unfold x2_passes at h
  generalize nC s0 = cN
  generalize nS s0 = sN
  refine gx_aload_n 0 0 dX2_passes_0 rfl ?_
  refine gx_get (t := 3) (k := 2) (v := J (s0 7 2)) 1 cw3 (by decide) (tgs (show stc 7 = (3, 0) by decide) (by decide)) q354 same_f rfl dX2_passes_1 ?_
  obtain ⟨x2_2, ex2_2, h⟩ := bnd_e h
  refine gx_istore_n 4 [(2, J x2_2), (0, .ref (ad x0 7)), (1, .ref (ad x0 a1))] dX2_passes_4 (by decide) ex2_2 rfl ?_
  refine gx_aload_n 5 1 dX2_passes_5 rfl ?_
  obtain ⟨z3, ez3, h⟩ := opt_e h
  refine gx_callV (As := []) (rest := []) (st' := [J z3.1]) 6 0 cw3 (tgs (show stc 7 = (3, 0) by decide) (by decide)) (mx2_here ez3 l) (lw_V q636 q638 qs6 q152 q639) (by decide +kernel) (by decide) rfl rfl (Nat.le_of_ble_eq_true rfl) dX2_passes_6 rfl ?_
  obtain ⟨z4, ez4, h⟩ := opt_e h
  refine gx_callSN (As := [J z3.1]) (rest := []) (st' := [J z4.1]) 9 1 (mx0_isLetter ez4 l) q646 q147 q644 q645 (by decide +kernel) (by decide) rfl rfl (Nat.le_of_ble_eq_true rfl) dX2_passes_9 rfl ?_
  refine gx_if_ne 12 17 dX2_passes_12 (by decide) (fun c5 => ?_) (fun c5 => ?_)
  · replace h := if_f h c5
    refine gx_aload_n 17 1 dX2_passes_17 rfl ?_
    obtain ⟨z6, ez6, h⟩ := opt_e h
    by_cases c7 : z6.1 = 0
    rotate_left
    · replace h := if_f h c7
      exact gx_callTX (As := []) (rest := []) 18 0 rfl cw3 (tgs (show stc 7 = (3, 0) by decide) (by decide)) c7 (mx2_word_2 ez6 l) (lw_V q632 q634 qs5 q152 q635) (by decide +kernel) (by decide) rfl rfl (Nat.le_of_ble_eq_true rfl) dX2_passes_18 h
    replace h := if_t h c7
    refine gx_callT (As := []) (rest := []) (st' := [.ref (ad x0 z6.2.1)]) 18 0 cw3 (tgs (show stc 7 = (3, 0) by decide) (by decide)) c7 (mx2_word_2 ez6 l) (lw_V q632 q634 qs5 q152 q635) (by decide +kernel) (by decide) rfl rfl (Nat.le_of_ble_eq_true rfl) dX2_passes_18 rfl ?_
    refine gx_aload_n 21 2 dX2_passes_21 rfl ?_
    obtain ⟨g9, h⟩ := gd_e h
    obtain ⟨z8, ez8, h⟩ := opt_e h
    refine gx_callV (As := [.ref (ad x0 a1)]) (rest := []) (st' := [J z8.1]) 22 1 cw22 g9 (mj6_equals ez8 l) (lw_V q736 q737 q738 q162 q739) (by decide +kernel) (by decide) rfl rfl (Nat.le_of_ble_eq_true rfl) dX2_passes_22 rfl ?_
    refine gx_if_eq 25 30 dX2_passes_25 (by decide) (fun c10 => ?_) (fun c10 => ?_)
    · replace h := if_t h c10
      refine gx_aload_n 30 1 dX2_passes_30 rfl ?_
      refine gx_iload_n 31 0 dX2_passes_31 rfl ?_
      obtain ⟨s11, es11, h⟩ := bnd_e h
      refine gx_put (t := 3) (k := 2) (x := x2_2) (ty := .int) 32 cw3 (by decide) (tgs (show stc 7 = (3, 0) by decide) (by decide)) (st0 (show stc 7 = (3, 0) by decide) (by decide)) (stm (show stc 7 = (3, 0) by decide) (by decide)) q354 same_f rfl (by decide +kernel) rfl rfl (congrArg J (ux_s _ _ _ _)) es11 dX2_passes_32 ?_
      refine gx_iconst 35 dX2_passes_35 ?_
      exact gx_zret 36 dX2_passes_36 (by decide) h
    · replace h := if_f h c10
      refine gx_iconst 28 dX2_passes_28 ?_
      exact gx_zret 29 dX2_passes_29 (by decide) h
  · replace h := if_t h c5
    refine gx_iconst 15 dX2_passes_15 ?_
    exact gx_zret 16 dX2_passes_16 (by decide) h
/-! VerbAtDusk$Reader.takes -/
noncomputable def x2_takes (a1 : Int) (s0 : XS) : Option (Int × XS) :=
  Option.bind (x2_here s0) fun z2 =>
  bnd (fun (w3 : Int) (s4 : XS) =>
      bnd (fun (x2_5 : Int) (w6 : Int) (w7 : Int) (s8 : XS) =>
          bnd (ux s8 7 2 (w7 + w6)) fun s9 =>
          gd (bz x2_5) <|
          some (x2_5, s9)) fun j11 =>
      if i32 w3 = 0 then
        j11 w3 0 (s4 7 2) s4
      else
        j11 w3 1 (s4 7 2) s4) fun j13 =>
  if i32 z2.1 = i32 a1 then
    j13 1 z2.2
  else
    j13 0 z2.2
theorem mx2_takes {x0 : Nat} {D : XD} {a1 : Int} {s0 : XS} {res : Int × XS} (h : x2_takes a1 s0 = some res) (l : Launch) : XMet0 l yX2_takes cX2_takes 3 (some .boolean) 3 true x0 D [.ref (ad x0 7), J a1] s0 1 res := by
  refine XMet0.ofn [(0, .ref (ad x0 7)), (1, J a1)] "VerbAtDusk$Reader" "takes" rfl rfl (plainFor_of_name (by decide)) (Nat.le_of_ble_eq_true rfl) rfl ?_
  unfold x2_takes at h
  generalize nC s0 = cN
  generalize nS s0 = sN
  refine gx_aload_n 0 0 dX2_takes_0 rfl ?_
  obtain ⟨z2, ez2, h⟩ := opt_e h
  refine gx_callV (As := []) (rest := []) (st' := [J z2.1]) 1 0 cw3 (tgs (show stc 7 = (3, 0) by decide) (by decide)) (mx2_here ez2 l) (lw_V q636 q638 qs6 q152 q639) (by decide +kernel) (by decide) rfl rfl (Nat.le_of_ble_eq_true rfl) dX2_takes_1 rfl ?_
  refine gx_iload_n 4 1 dX2_takes_4 rfl ?_
  obtain ⟨j13, ej13, h⟩ := bnd_e h
  have hj13 : ∀ (w3 : Int) (s4 : XS), j13 w3 s4 = some res → GX l cX2_takes "VerbAtDusk$Reader" 3 (some .boolean) "takes" [] x0 D true 1 3 cN sN (0, res) s4 13 [(0, .ref (ad x0 7))] [J w3] := by
    clear h
    intro w3 s4 h
    subst ej13
    refine gx_istore_n 13 [(2, J w3), (0, .ref (ad x0 7))] dX2_takes_13 (by decide) rfl rfl ?_
    refine gx_aload_n 14 1 dX2_takes_14 rfl ?_
    refine gx_dup 15 dX2_takes_15 rfl ?_
    refine gx_get (t := 3) (k := 2) (v := J (s4 7 2)) 16 cw3 (by decide) (tgs (show stc 7 = (3, 0) by decide) (by decide)) q354 same_f rfl dX2_takes_16 ?_
    refine gx_iload_n 19 0 dX2_takes_19 rfl ?_
    obtain ⟨j11, ej11, h⟩ := bnd_e h
    have hj11 : ∀ (x2_5 : Int) (w6 : Int) (w7 : Int) (s8 : XS), j11 x2_5 w6 w7 s8 = some res → GX l cX2_takes "VerbAtDusk$Reader" 3 (some .boolean) "takes" [] x0 D true 1 3 cN sN (0, res) s8 28 [(2, J x2_5)] [J w6, J w7, .ref (ad x0 7)] := by
      clear h
      intro x2_5 w6 w7 s8 h
      subst ej11
      refine gx_iadd 28 dX2_takes_28 ?_
      obtain ⟨s9, es9, h⟩ := bnd_e h
      refine gx_put (t := 3) (k := 2) (x := (w7 + w6)) (ty := .int) 29 cw3 (by decide) (tgs (show stc 7 = (3, 0) by decide) (by decide)) (st0 (show stc 7 = (3, 0) by decide) (by decide)) (stm (show stc 7 = (3, 0) by decide) (by decide)) q354 same_f rfl (by decide +kernel) rfl rfl (congrArg J (ux_s _ _ _ _)) es9 dX2_takes_29 ?_
      refine gx_iload_n 32 0 dX2_takes_32 rfl ?_
      obtain ⟨g10, h⟩ := gd_e h
      exact gx_zret 33 dX2_takes_33 g10 (rt h)
    refine gx_if_eq 20 27 dX2_takes_20 (by decide) (fun c12 => ?_) (fun c12 => ?_)
    · replace h := if_t h c12
      refine gx_iconst 27 dX2_takes_27 ?_
      refine gx_sub [0] rfl ?_
      exact hj11 _ _ _ _ h
    · replace h := if_f h c12
      refine gx_iconst 23 dX2_takes_23 ?_
      refine gx_goto 24 28 dX2_takes_24 (by decide) ?_
      refine gx_sub [0] rfl ?_
      exact hj11 _ _ _ _ h
  refine gx_icmp_ne 5 12 dX2_takes_5 (by decide) (fun c14 => ?_) (fun c14 => ?_)
  · replace h := if_f h c14
    refine gx_iconst 12 dX2_takes_12 ?_
    refine gx_sub [0] rfl ?_
    exact hj13 _ _ h
  · replace h := if_t h c14
    refine gx_iconst 8 dX2_takes_8 ?_
    refine gx_goto 9 13 dX2_takes_9 (by decide) ?_
    refine gx_sub [0] rfl ?_
    exact hj13 _ _ h
/-! VerbAtDusk$Reader.named -/
noncomputable def x2_named (a1 : Int) (a2 : Int) (s0 : XS) : Option RX :=
  bnd (-1) fun x4_3 =>
  gd (tg true s0 a1 = 22) <|
  Option.bind (j6_hashCode true a1 s0) fun z4 =>
  bnd (fun (x2_6 : Int) (x4_7 : Int) (s8 : XS) =>
      if i32 x4_7 = 0 then
        gd (¬ (s8 7 6) = -1) <|
        gd (tg true s8 (s8 7 6) = 2) <|
        gd (¬ (s8 (s8 7 6) 4) = -1) <|
        gd (tg true s8 (s8 (s8 7 6) 4) = 21) <|
        Option.bind (j2_size true (s8 (s8 7 6) 4) s8) fun z13 =>
        bnd (fun (x2_15 : Int) (w16 : Int) (s17 : XS) =>
            Option.bind (x2_most w16 x2_15 s17) fun z18 =>
            if z18.1 = 0 then
            Option.bind (x2_fresh z18.2.2) fun z20 =>
            if z20.1 = 0 then
            bnd z20.2.1 fun x5_22 =>
            Option.bind (x2_number_2 (z20.2.2 (-1) 124) 0 9 z20.2.2) fun z23 =>
            if z23.1 = 0 then
            bnd z23.2.1 fun x6_25 =>
            Option.bind (x2_number 0 9 z23.2.2) fun z26 =>
            if z26.1 = 0 then
            bnd z26.2.1 fun x7_28 =>
            gd (¬ (z26.2.2 7 6) = -1) <|
            gd (tg true z26.2.2 (z26.2.2 7 6) = 2) <|
            gd (¬ (z26.2.2 (z26.2.2 7 6) 4) = -1) <|
            gd (0 ≤ z26.2.2 (-1) 0 ∧ 0 ≤ z26.2.2 (-1) 1) <|
            bnd (nwx z26.2.2 9 0 4 (dfl 9)) fun s33 =>
            Option.bind (x2_number_2 (s33 (-1) 125) 0 9 s33) fun z34 =>
            if z34.1 = 0 then
            Option.bind (x10_init true (z26.2.2 (-1) 0) x5_22 x6_25 x7_28 z34.2.1 z34.2.2) fun z36 =>
            gd (tg true z36.2 (z26.2.2 (z26.2.2 7 6) 4) = 21) <|
            Option.bind (j2_add true (z26.2.2 (z26.2.2 7 6) 4) (z26.2.2 (-1) 0) z36.2) fun z37 =>
            some (0, 1, z37.2)
            else some (1, 0, z34.2.2)
            else some (1, 0, z26.2.2)
            else some (1, 0, z23.2.2)
            else some (1, 0, z20.2.2)
            else some (1, 0, z18.2.2)) fun j39 =>
        if i32 z13.1 = i32 6 then
          j39 x2_6 1 z13.2
        else
          j39 x2_6 0 z13.2
      else
      if i32 x4_7 = 1 then
        gd (¬ (s8 7 6) = -1) <|
        gd (tg true s8 (s8 7 6) = 2) <|
        gd (¬ (s8 (s8 7 6) 5) = -1) <|
        gd (tg true s8 (s8 (s8 7 6) 5) = 21) <|
        Option.bind (j2_size true (s8 (s8 7 6) 5) s8) fun z45 =>
        bnd (fun (x2_47 : Int) (w48 : Int) (s49 : XS) =>
            Option.bind (x2_most w48 x2_47 s49) fun z50 =>
            if z50.1 = 0 then
            Option.bind (x2_fresh z50.2.2) fun z52 =>
            if z52.1 = 0 then
            bnd z52.2.1 fun x8_54 =>
            Option.bind (x2_number_2 (z52.2.2 (-1) 126) 0 9 z52.2.2) fun z55 =>
            if z55.1 = 0 then
            bnd z55.2.1 fun x9_57 =>
            gd (¬ (z55.2.2 7 6) = -1) <|
            gd (tg true z55.2.2 (z55.2.2 7 6) = 2) <|
            gd (¬ (z55.2.2 (z55.2.2 7 6) 5) = -1) <|
            gd (0 ≤ z55.2.2 (-1) 0 ∧ 0 ≤ z55.2.2 (-1) 1) <|
            bnd (nwx z55.2.2 10 0 3 (dfl 10)) fun s62 =>
            Option.bind (x2_number_2 (s62 (-1) 127) 0 9 s62) fun z63 =>
            if z63.1 = 0 then
            Option.bind (x11_init true (z55.2.2 (-1) 0) x8_54 x9_57 z63.2.1 z63.2.2) fun z65 =>
            gd (tg true z65.2 (z55.2.2 (z55.2.2 7 6) 5) = 21) <|
            Option.bind (j2_add true (z55.2.2 (z55.2.2 7 6) 5) (z55.2.2 (-1) 0) z65.2) fun z66 =>
            some (0, 1, z66.2)
            else some (1, 0, z63.2.2)
            else some (1, 0, z55.2.2)
            else some (1, 0, z52.2.2)
            else some (1, 0, z50.2.2)) fun j68 =>
        if i32 z45.1 = i32 7 then
          j68 x2_6 1 z45.2
        else
          j68 x2_6 0 z45.2
      else
      if i32 x4_7 = 2 then
        gd (¬ (s8 7 6) = -1) <|
        gd (tg true s8 (s8 7 6) = 2) <|
        gd (¬ (s8 (s8 7 6) 5) = -1) <|
        Option.bind (x2_name s8) fun z74 =>
        if z74.1 = 0 then
        Option.bind (x9_find true (s8 (s8 7 6) 5) z74.2.1 z74.2.2) fun z76 =>
        bnd z76.1 fun x10_77 =>
        bnd (fun (s78 : XS) =>
            Option.bind (x2_wrong 3 (s78 7 3) s78) fun z79 =>
            gd (z79.1 = 8) <|
            some (1, 0, z79.2)) fun j81 =>
        if i32 x10_77 = i32 (-1) then
          j81 z76.2
        else
          gd (¬ (z76.2 7 6) = -1) <|
          gd (tg true z76.2 (z76.2 7 6) = 2) <|
          Option.bind (x0_has (z76.2 (z76.2 7 6) 2) x10_77 z76.2) fun z85 =>
          if i32 z85.1 = 0 then
            gd (¬ (z85.2 7 6) = -1) <|
            gd (tg true z85.2 (z85.2 7 6) = 2) <|
            gd (tg true z85.2 (z85.2 7 6) = 2) <|
            gd (0 ≤ (z85.2 7 6) ∧ ¬ (1438 ≤ (z85.2 7 6) ∧ (z85.2 7 6) < 1514)) <|
            bnd (ux z85.2 (z85.2 7 6) 2 (ior (z85.2 (z85.2 7 6) 2) (ishl 1 x10_77))) fun s91 =>
            some (0, 1, s91)
          else
            j81 z85.2
        else some (1, 0, z74.2.2)
      else
        some (0, 0, s8)) fun j92 =>
  if i32 z4.1 = (-909324265) then
    gd (tg true z4.2 a1 = 22) <|
    Option.bind (j6_equals true a1 (z4.2 (-1) 121) z4.2) fun z94 =>
    if i32 z94.1 = 0 then
      j92 a2 x4_3 z94.2
    else
      bnd 0 fun x4_97 =>
      j92 a2 x4_97 z94.2
  else
  if i32 z4.1 = 3318015 then
    gd (tg true z4.2 a1 = 22) <|
    Option.bind (j6_equals true a1 (z4.2 (-1) 123) z4.2) fun z99 =>
    if i32 z99.1 = 0 then
      j92 a2 x4_3 z99.2
    else
      bnd 2 fun x4_102 =>
      j92 a2 x4_102 z99.2
  else
  if i32 z4.1 = 3616031 then
    gd (tg true z4.2 a1 = 22) <|
    Option.bind (j6_equals true a1 (z4.2 (-1) 122) z4.2) fun z104 =>
    if i32 z104.1 = 0 then
      j92 a2 x4_3 z104.2
    else
      bnd 1 fun x4_107 =>
      j92 a2 x4_107 z104.2
  else
    j92 a2 x4_3 z4.2
theorem mx2_named {x0 : Nat} {D : XD} {a1 : Int} {a2 : Int} {s0 : XS} {res : RX} (h : x2_named a1 a2 s0 = some res) (l : Launch) : XMet l yX2_named cX2_named 11 (some .boolean) 9 true x0 D [.ref (ad x0 7), .ref (ad x0 a1), J a2] s0 1 res := by
  refine XMet.ofn [(0, .ref (ad x0 7)), (1, .ref (ad x0 a1)), (2, J a2)] "VerbAtDusk$Reader" "named" rfl rfl (by decide) (Nat.le_of_ble_eq_true rfl) rfl ?_
  unfold x2_named at h
  generalize nC s0 = cN
  generalize nS s0 = sN
  refine gx_aload_n 0 1 dX2_named_0 rfl ?_
  refine gx_astore_nv 1 [(3, .ref (ad x0 a1)), (0, .ref (ad x0 7)), (1, .ref (ad x0 a1)), (2, J a2)] dX2_named_1 (by decide) rfl rfl ?_
  refine gx_iconst 2 dX2_named_2 ?_
  obtain ⟨x4_3, ex4_3, h⟩ := bnd_e h
  refine gx_istore 3 [(4, J x4_3), (3, .ref (ad x0 a1)), (0, .ref (ad x0 7)), (1, .ref (ad x0 a1)), (2, J a2)] dX2_named_3 (by decide) ex4_3 rfl ?_
  refine gx_aload_n 5 1 dX2_named_5 rfl ?_
  obtain ⟨g5, h⟩ := gd_e h
  obtain ⟨z4, ez4, h⟩ := opt_e h
  refine gx_callV (As := []) (rest := []) (st' := [J z4.1]) 6 0 cw22 g5 (mj6_hashCode ez4 l) (lw_V q762 q763 q764 q162 q765) (by decide +kernel) (by decide) rfl rfl (Nat.le_of_ble_eq_true rfl) dX2_named_6 rfl ?_
  obtain ⟨j92, ej92, h⟩ := bnd_e h
  have hj92 : ∀ (x2_6 : Int) (x4_7 : Int) (s8 : XS), j92 x2_6 x4_7 s8 = some res → GX l cX2_named "VerbAtDusk$Reader" 11 (some .boolean) "named" [] x0 D true 1 9 cN sN res s8 86 [(0, .ref (ad x0 7)), (2, J x2_6), (4, J x4_7)] [] := by
    clear h
    intro x2_6 x4_7 s8 h
    subst ej92
    refine gx_iload 86 2 dX2_named_86 rfl ?_
    by_cases c9 : i32 x4_7 = 0
    · replace h := if_t h c9
      refine gx_tableIn 88 116 0 dX2_named_88 c9 (by decide) (by decide) rfl (by decide) ?_
      refine gx_aload_n 116 0 dX2_named_116 rfl ?_
      refine gx_aload_n 117 0 dX2_named_117 rfl ?_
      obtain ⟨g10, h⟩ := gd_e h
      refine gx_get (t := 3) (k := 6) (v := .ref (ad x0 (s8 7 6))) 118 cw3 (by decide) (tgs (show stc 7 = (3, 0) by decide) (by decide)) q358 same_f (rf_ne g10) dX2_named_118 ?_
      obtain ⟨g11, h⟩ := gd_e h
      obtain ⟨g12, h⟩ := gd_e h
      refine gx_getN (t := 2) (k := 4) (v := .ref (ad x0 (s8 (s8 7 6) 4))) 121 cw2 (by decide) g11 q243 same_f (rf_ne g12) dX2_named_121 ?_
      obtain ⟨g14, h⟩ := gd_e h
      obtain ⟨z13, ez13, h⟩ := opt_e h
      refine gx_callF (As := []) (rest := [.ref (ad x0 7)]) (st' := [J z13.1, .ref (ad x0 7)]) 124 0 cw21 rfl g14  (mj2_size ez13 l) (lw_app (lw_in4 q819 q823 q825 q151) (lw_meth q827)) (by decide) (by decide +kernel) (by decide) rfl rfl (Nat.le_of_ble_eq_true rfl) dX2_named_124 rfl ?_
      refine gx_bipush 129 dX2_named_129 (by decide) ?_
      obtain ⟨j39, ej39, h⟩ := bnd_e h
      have hj39 : ∀ (x2_15 : Int) (w16 : Int) (s17 : XS), j39 x2_15 w16 s17 = some res → GX l cX2_named "VerbAtDusk$Reader" 11 (some .boolean) "named" [] x0 D true 1 9 cN sN res s17 139 [(0, .ref (ad x0 7)), (2, J x2_15)] [J w16, .ref (ad x0 7)] := by
        clear h
        intro x2_15 w16 s17 h
        subst ej39
        refine gx_iload_n 139 1 dX2_named_139 rfl ?_
        obtain ⟨z18, ez18, h⟩ := opt_e h
        by_cases c19 : z18.1 = 0
        rotate_left
        · replace h := if_f h c19
          exact gx_callTX (As := [J w16, J x2_15]) (rest := []) 140 2 rfl cw3 (tgs (show stc 7 = (3, 0) by decide) (by decide)) c19 (mx2_most ez18 l) (lw_V q754 q756 qs12 q152 q757) (by decide +kernel) (by decide) rfl rfl (Nat.le_of_ble_eq_true rfl) dX2_named_140 h
        replace h := if_t h c19
        refine gx_callT (As := [J w16, J x2_15]) (rest := []) (st' := []) 140 2 cw3 (tgs (show stc 7 = (3, 0) by decide) (by decide)) c19 (mx2_most ez18 l) (lw_V q754 q756 qs12 q152 q757) (by decide +kernel) (by decide) rfl rfl (Nat.le_of_ble_eq_true rfl) dX2_named_140 rfl ?_
        refine gx_aload_n 143 0 dX2_named_143 rfl ?_
        obtain ⟨z20, ez20, h⟩ := opt_e h
        by_cases c21 : z20.1 = 0
        rotate_left
        · replace h := if_f h c21
          exact gx_callTX (As := []) (rest := []) 144 0 rfl cw3 (tgs (show stc 7 = (3, 0) by decide) (by decide)) c21 (mx2_fresh ez20 l) (lw_V q828 q830 qs14 q152 q831) (by decide +kernel) (by decide) rfl rfl (Nat.le_of_ble_eq_true rfl) dX2_named_144 h
        replace h := if_t h c21
        refine gx_callT (As := []) (rest := []) (st' := [.ref (ad x0 z20.2.1)]) 144 0 cw3 (tgs (show stc 7 = (3, 0) by decide) (by decide)) c21 (mx2_fresh ez20 l) (lw_V q828 q830 qs14 q152 q831) (by decide +kernel) (by decide) rfl rfl (Nat.le_of_ble_eq_true rfl) dX2_named_144 rfl ?_
        obtain ⟨x5_22, ex5_22, h⟩ := bnd_e h
        refine gx_astorev 147 [(5, .ref (ad x0 x5_22)), (0, .ref (ad x0 7)), (2, J x2_15)] dX2_named_147 (by decide) ex5_22 rfl ?_
        refine gx_aload_n 149 1 dX2_named_149 rfl ?_
        refine gx_ldcS (j := 24) (tx := "at") 150 (by decide) rfl dX2_named_150 ?_
        refine gx_iconst 152 dX2_named_152 ?_
        refine gx_bipush 153 dX2_named_153 (by decide) ?_
        obtain ⟨z23, ez23, h⟩ := opt_e h
        by_cases c24 : z23.1 = 0
        rotate_left
        · replace h := if_f h c24
          exact gx_callTX (As := [.ref (ad x0 (z20.2.2 (-1) 124)), J 0, J 9]) (rest := []) 155 3 rfl cw3 (tgs (show stc 7 = (3, 0) by decide) (by decide)) c24 (mx2_number_2 ez23 l) (lw_V q881 q883 qs16 q152 q884) (by decide +kernel) (by decide) rfl rfl (Nat.le_of_ble_eq_true rfl) dX2_named_155 h
        replace h := if_t h c24
        refine gx_callT (As := [.ref (ad x0 (z20.2.2 (-1) 124)), J 0, J 9]) (rest := []) (st' := [J z23.2.1]) 155 3 cw3 (tgs (show stc 7 = (3, 0) by decide) (by decide)) c24 (mx2_number_2 ez23 l) (lw_V q881 q883 qs16 q152 q884) (by decide +kernel) (by decide) rfl rfl (Nat.le_of_ble_eq_true rfl) dX2_named_155 rfl ?_
        obtain ⟨x6_25, ex6_25, h⟩ := bnd_e h
        refine gx_istore 158 [(6, J x6_25), (5, .ref (ad x0 x5_22)), (0, .ref (ad x0 7)), (2, J x2_15)] dX2_named_158 (by decide) ex6_25 rfl ?_
        refine gx_aload_n 160 2 dX2_named_160 rfl ?_
        refine gx_iconst 161 dX2_named_161 ?_
        refine gx_bipush 162 dX2_named_162 (by decide) ?_
        obtain ⟨z26, ez26, h⟩ := opt_e h
        by_cases c27 : z26.1 = 0
        rotate_left
        · replace h := if_f h c27
          exact gx_callTX (As := [J 0, J 9]) (rest := []) 164 2 rfl cw3 (tgs (show stc 7 = (3, 0) by decide) (by decide)) c27 (mx2_number ez26 l) (lw_V q743 q745 qs10 q152 q746) (by decide +kernel) (by decide) rfl rfl (Nat.le_of_ble_eq_true rfl) dX2_named_164 h
        replace h := if_t h c27
        refine gx_callT (As := [J 0, J 9]) (rest := []) (st' := [J z26.2.1]) 164 2 cw3 (tgs (show stc 7 = (3, 0) by decide) (by decide)) c27 (mx2_number ez26 l) (lw_V q743 q745 qs10 q152 q746) (by decide +kernel) (by decide) rfl rfl (Nat.le_of_ble_eq_true rfl) dX2_named_164 rfl ?_
        obtain ⟨x7_28, ex7_28, h⟩ := bnd_e h
        refine gx_istore 167 [(7, J x7_28), (6, J x6_25), (5, .ref (ad x0 x5_22)), (0, .ref (ad x0 7)), (2, J x2_15)] dX2_named_167 (by decide) ex7_28 rfl ?_
        refine gx_aload_n 169 3 dX2_named_169 rfl ?_
        obtain ⟨g29, h⟩ := gd_e h
        refine gx_get (t := 3) (k := 6) (v := .ref (ad x0 (z26.2.2 7 6))) 170 cw3 (by decide) (tgs (show stc 7 = (3, 0) by decide) (by decide)) q358 same_f (rf_ne g29) dX2_named_170 ?_
        obtain ⟨g30, h⟩ := gd_e h
        obtain ⟨g31, h⟩ := gd_e h
        refine gx_getN (t := 2) (k := 4) (v := .ref (ad x0 (z26.2.2 (z26.2.2 7 6) 4))) 173 cw2 (by decide) g30 q243 same_f (rf_ne g31) dX2_named_173 ?_
        obtain ⟨g32, h⟩ := gd_e h
        obtain ⟨s33, es33, h⟩ := bnd_e h
        refine gx_new (t := 9) 176 g32 cw9 tyX10 tyX10_ok (df_9 true x0 _) q885 q886 q169 es33 dX2_named_176 ?_
        refine gx_dup 179 dX2_named_179 rfl ?_
        refine gx_aload 180 2 dX2_named_180 rfl ?_
        refine gx_iload 182 1 dX2_named_182 rfl ?_
        refine gx_iload 184 0 dX2_named_184 rfl ?_
        refine gx_aload_n 186 3 dX2_named_186 rfl ?_
        refine gx_ldcS (j := 25) (tx := "tone") 187 (by decide) rfl dX2_named_187 ?_
        refine gx_iconst 189 dX2_named_189 ?_
        refine gx_bipush 190 dX2_named_190 (by decide) ?_
        obtain ⟨z34, ez34, h⟩ := opt_e h
        by_cases c35 : z34.1 = 0
        rotate_left
        · replace h := if_f h c35
          exact gx_callTX (As := [.ref (ad x0 (s33 (-1) 125)), J 0, J 9]) (rest := [J x7_28, J x6_25, .ref (ad x0 x5_22), .ref (ad x0 (z26.2.2 (-1) 0)), .ref (ad x0 (z26.2.2 (-1) 0)), .ref (ad x0 (z26.2.2 (z26.2.2 7 6) 4))]) 192 3 rfl cw3 (tgs (show stc 7 = (3, 0) by decide) (by decide)) c35 (mx2_number_2 ez34 l) (lw_V q881 q883 qs16 q152 q884) (by decide +kernel) (by decide) rfl rfl (Nat.le_of_ble_eq_true rfl) dX2_named_192 h
        replace h := if_t h c35
        refine gx_callT (As := [.ref (ad x0 (s33 (-1) 125)), J 0, J 9]) (rest := [J x7_28, J x6_25, .ref (ad x0 x5_22), .ref (ad x0 (z26.2.2 (-1) 0)), .ref (ad x0 (z26.2.2 (-1) 0)), .ref (ad x0 (z26.2.2 (z26.2.2 7 6) 4))]) (st' := [J z34.2.1, J x7_28, J x6_25, .ref (ad x0 x5_22), .ref (ad x0 (z26.2.2 (-1) 0)), .ref (ad x0 (z26.2.2 (-1) 0)), .ref (ad x0 (z26.2.2 (z26.2.2 7 6) 4))]) 192 3 cw3 (tgs (show stc 7 = (3, 0) by decide) (by decide)) c35 (mx2_number_2 ez34 l) (lw_V q881 q883 qs16 q152 q884) (by decide +kernel) (by decide) rfl rfl (Nat.le_of_ble_eq_true rfl) dX2_named_192 rfl ?_
        obtain ⟨z36, ez36, h⟩ := opt_e h
        refine gx_callI (As := [.ref (ad x0 x5_22), J x6_25, J x7_28, J z34.2.1]) (rest := [.ref (ad x0 (z26.2.2 (-1) 0)), .ref (ad x0 (z26.2.2 (z26.2.2 7 6) 4))]) 195 4 (mx10_init ez36 l) q890 q169 q888 q889 rfl (by decide +kernel) (by decide) rfl rfl (Nat.le_of_ble_eq_true rfl) dX2_named_195 ?_
        obtain ⟨g38, h⟩ := gd_e h
        obtain ⟨z37, ez37, h⟩ := opt_e h
        refine gx_callF (As := [.ref (ad x0 (z26.2.2 (-1) 0))]) (rest := []) (st' := [J z37.1]) 198 1 cw21 rfl g38  (mj2_add ez37 l) (lw_app (lw_in4 q912 q915 q917 q151) (lw_meth q919)) (by decide) (by decide +kernel) (by decide) rfl rfl (Nat.le_of_ble_eq_true rfl) dX2_named_198 rfl ?_
        refine gx_pop 203 dX2_named_203 rfl ?_
        refine gx_iconst 204 dX2_named_204 ?_
        exact gx_zret 205 dX2_named_205 (by decide) h
      refine gx_icmp_ne 131 138 dX2_named_131 (by decide) (fun c40 => ?_) (fun c40 => ?_)
      · replace h := if_f h c40
        refine gx_iconst 138 dX2_named_138 ?_
        refine gx_sub [0, 1] rfl ?_
        exact hj39 _ _ _ h
      · replace h := if_t h c40
        refine gx_iconst 134 dX2_named_134 ?_
        refine gx_goto 135 139 dX2_named_135 (by decide) ?_
        refine gx_sub [0, 1] rfl ?_
        exact hj39 _ _ _ h
    replace h := if_f h c9
    by_cases c41 : i32 x4_7 = 1
    · replace h := if_t h c41
      refine gx_tableIn 88 206 1 dX2_named_88 c41 (by decide) (by decide) rfl (by decide) ?_
      refine gx_aload_n 206 0 dX2_named_206 rfl ?_
      refine gx_aload_n 207 0 dX2_named_207 rfl ?_
      obtain ⟨g42, h⟩ := gd_e h
      refine gx_get (t := 3) (k := 6) (v := .ref (ad x0 (s8 7 6))) 208 cw3 (by decide) (tgs (show stc 7 = (3, 0) by decide) (by decide)) q358 same_f (rf_ne g42) dX2_named_208 ?_
      obtain ⟨g43, h⟩ := gd_e h
      obtain ⟨g44, h⟩ := gd_e h
      refine gx_getN (t := 2) (k := 5) (v := .ref (ad x0 (s8 (s8 7 6) 5))) 211 cw2 (by decide) g43 q246 same_f (rf_ne g44) dX2_named_211 ?_
      obtain ⟨g46, h⟩ := gd_e h
      obtain ⟨z45, ez45, h⟩ := opt_e h
      refine gx_callF (As := []) (rest := [.ref (ad x0 7)]) (st' := [J z45.1, .ref (ad x0 7)]) 214 0 cw21 rfl g46  (mj2_size ez45 l) (lw_app (lw_in4 q819 q823 q825 q151) (lw_meth q827)) (by decide) (by decide +kernel) (by decide) rfl rfl (Nat.le_of_ble_eq_true rfl) dX2_named_214 rfl ?_
      refine gx_bipush 219 dX2_named_219 (by decide) ?_
      obtain ⟨j68, ej68, h⟩ := bnd_e h
      have hj68 : ∀ (x2_47 : Int) (w48 : Int) (s49 : XS), j68 x2_47 w48 s49 = some res → GX l cX2_named "VerbAtDusk$Reader" 11 (some .boolean) "named" [] x0 D true 1 9 cN sN res s49 229 [(0, .ref (ad x0 7)), (2, J x2_47)] [J w48, .ref (ad x0 7)] := by
        clear h
        intro x2_47 w48 s49 h
        subst ej68
        refine gx_iload_n 229 1 dX2_named_229 rfl ?_
        obtain ⟨z50, ez50, h⟩ := opt_e h
        by_cases c51 : z50.1 = 0
        rotate_left
        · replace h := if_f h c51
          exact gx_callTX (As := [J w48, J x2_47]) (rest := []) 230 2 rfl cw3 (tgs (show stc 7 = (3, 0) by decide) (by decide)) c51 (mx2_most ez50 l) (lw_V q754 q756 qs12 q152 q757) (by decide +kernel) (by decide) rfl rfl (Nat.le_of_ble_eq_true rfl) dX2_named_230 h
        replace h := if_t h c51
        refine gx_callT (As := [J w48, J x2_47]) (rest := []) (st' := []) 230 2 cw3 (tgs (show stc 7 = (3, 0) by decide) (by decide)) c51 (mx2_most ez50 l) (lw_V q754 q756 qs12 q152 q757) (by decide +kernel) (by decide) rfl rfl (Nat.le_of_ble_eq_true rfl) dX2_named_230 rfl ?_
        refine gx_aload_n 233 0 dX2_named_233 rfl ?_
        obtain ⟨z52, ez52, h⟩ := opt_e h
        by_cases c53 : z52.1 = 0
        rotate_left
        · replace h := if_f h c53
          exact gx_callTX (As := []) (rest := []) 234 0 rfl cw3 (tgs (show stc 7 = (3, 0) by decide) (by decide)) c53 (mx2_fresh ez52 l) (lw_V q828 q830 qs14 q152 q831) (by decide +kernel) (by decide) rfl rfl (Nat.le_of_ble_eq_true rfl) dX2_named_234 h
        replace h := if_t h c53
        refine gx_callT (As := []) (rest := []) (st' := [.ref (ad x0 z52.2.1)]) 234 0 cw3 (tgs (show stc 7 = (3, 0) by decide) (by decide)) c53 (mx2_fresh ez52 l) (lw_V q828 q830 qs14 q152 q831) (by decide +kernel) (by decide) rfl rfl (Nat.le_of_ble_eq_true rfl) dX2_named_234 rfl ?_
        obtain ⟨x8_54, ex8_54, h⟩ := bnd_e h
        refine gx_astorev 237 [(8, .ref (ad x0 x8_54)), (0, .ref (ad x0 7)), (2, J x2_47)] dX2_named_237 (by decide) ex8_54 rfl ?_
        refine gx_aload_n 239 1 dX2_named_239 rfl ?_
        refine gx_ldcS (j := 26) (tx := "kind") 240 (by decide) rfl dX2_named_240 ?_
        refine gx_iconst 242 dX2_named_242 ?_
        refine gx_bipush 243 dX2_named_243 (by decide) ?_
        obtain ⟨z55, ez55, h⟩ := opt_e h
        by_cases c56 : z55.1 = 0
        rotate_left
        · replace h := if_f h c56
          exact gx_callTX (As := [.ref (ad x0 (z52.2.2 (-1) 126)), J 0, J 9]) (rest := []) 245 3 rfl cw3 (tgs (show stc 7 = (3, 0) by decide) (by decide)) c56 (mx2_number_2 ez55 l) (lw_V q881 q883 qs16 q152 q884) (by decide +kernel) (by decide) rfl rfl (Nat.le_of_ble_eq_true rfl) dX2_named_245 h
        replace h := if_t h c56
        refine gx_callT (As := [.ref (ad x0 (z52.2.2 (-1) 126)), J 0, J 9]) (rest := []) (st' := [J z55.2.1]) 245 3 cw3 (tgs (show stc 7 = (3, 0) by decide) (by decide)) c56 (mx2_number_2 ez55 l) (lw_V q881 q883 qs16 q152 q884) (by decide +kernel) (by decide) rfl rfl (Nat.le_of_ble_eq_true rfl) dX2_named_245 rfl ?_
        obtain ⟨x9_57, ex9_57, h⟩ := bnd_e h
        refine gx_istore 248 [(9, J x9_57), (8, .ref (ad x0 x8_54)), (0, .ref (ad x0 7)), (2, J x2_47)] dX2_named_248 (by decide) ex9_57 rfl ?_
        refine gx_aload_n 250 2 dX2_named_250 rfl ?_
        obtain ⟨g58, h⟩ := gd_e h
        refine gx_get (t := 3) (k := 6) (v := .ref (ad x0 (z55.2.2 7 6))) 251 cw3 (by decide) (tgs (show stc 7 = (3, 0) by decide) (by decide)) q358 same_f (rf_ne g58) dX2_named_251 ?_
        obtain ⟨g59, h⟩ := gd_e h
        obtain ⟨g60, h⟩ := gd_e h
        refine gx_getN (t := 2) (k := 5) (v := .ref (ad x0 (z55.2.2 (z55.2.2 7 6) 5))) 254 cw2 (by decide) g59 q246 same_f (rf_ne g60) dX2_named_254 ?_
        obtain ⟨g61, h⟩ := gd_e h
        obtain ⟨s62, es62, h⟩ := bnd_e h
        refine gx_new (t := 10) 257 g61 cw10 tyX11 tyX11_ok (df_10 true x0 _) q989 q990 q173 es62 dX2_named_257 ?_
        refine gx_dup 260 dX2_named_260 rfl ?_
        refine gx_aload 261 1 dX2_named_261 rfl ?_
        refine gx_iload 263 0 dX2_named_263 rfl ?_
        refine gx_aload_n 265 2 dX2_named_265 rfl ?_
        refine gx_ldcS (j := 27) (tx := "mild") 266 (by decide) rfl dX2_named_266 ?_
        refine gx_iconst 268 dX2_named_268 ?_
        refine gx_bipush 269 dX2_named_269 (by decide) ?_
        obtain ⟨z63, ez63, h⟩ := opt_e h
        by_cases c64 : z63.1 = 0
        rotate_left
        · replace h := if_f h c64
          exact gx_callTX (As := [.ref (ad x0 (s62 (-1) 127)), J 0, J 9]) (rest := [J x9_57, .ref (ad x0 x8_54), .ref (ad x0 (z55.2.2 (-1) 0)), .ref (ad x0 (z55.2.2 (-1) 0)), .ref (ad x0 (z55.2.2 (z55.2.2 7 6) 5))]) 271 3 rfl cw3 (tgs (show stc 7 = (3, 0) by decide) (by decide)) c64 (mx2_number_2 ez63 l) (lw_V q881 q883 qs16 q152 q884) (by decide +kernel) (by decide) rfl rfl (Nat.le_of_ble_eq_true rfl) dX2_named_271 h
        replace h := if_t h c64
        refine gx_callT (As := [.ref (ad x0 (s62 (-1) 127)), J 0, J 9]) (rest := [J x9_57, .ref (ad x0 x8_54), .ref (ad x0 (z55.2.2 (-1) 0)), .ref (ad x0 (z55.2.2 (-1) 0)), .ref (ad x0 (z55.2.2 (z55.2.2 7 6) 5))]) (st' := [J z63.2.1, J x9_57, .ref (ad x0 x8_54), .ref (ad x0 (z55.2.2 (-1) 0)), .ref (ad x0 (z55.2.2 (-1) 0)), .ref (ad x0 (z55.2.2 (z55.2.2 7 6) 5))]) 271 3 cw3 (tgs (show stc 7 = (3, 0) by decide) (by decide)) c64 (mx2_number_2 ez63 l) (lw_V q881 q883 qs16 q152 q884) (by decide +kernel) (by decide) rfl rfl (Nat.le_of_ble_eq_true rfl) dX2_named_271 rfl ?_
        obtain ⟨z65, ez65, h⟩ := opt_e h
        refine gx_callI (As := [.ref (ad x0 x8_54), J x9_57, J z63.2.1]) (rest := [.ref (ad x0 (z55.2.2 (-1) 0)), .ref (ad x0 (z55.2.2 (z55.2.2 7 6) 5))]) 274 3 (mx11_init ez65 l) q994 q173 q992 q993 rfl (by decide +kernel) (by decide) rfl rfl (Nat.le_of_ble_eq_true rfl) dX2_named_274 ?_
        obtain ⟨g67, h⟩ := gd_e h
        obtain ⟨z66, ez66, h⟩ := opt_e h
        refine gx_callF (As := [.ref (ad x0 (z55.2.2 (-1) 0))]) (rest := []) (st' := [J z66.1]) 277 1 cw21 rfl g67  (mj2_add ez66 l) (lw_app (lw_in4 q912 q915 q917 q151) (lw_meth q919)) (by decide) (by decide +kernel) (by decide) rfl rfl (Nat.le_of_ble_eq_true rfl) dX2_named_277 rfl ?_
        refine gx_pop 282 dX2_named_282 rfl ?_
        refine gx_iconst 283 dX2_named_283 ?_
        exact gx_zret 284 dX2_named_284 (by decide) h
      refine gx_icmp_ne 221 228 dX2_named_221 (by decide) (fun c69 => ?_) (fun c69 => ?_)
      · replace h := if_f h c69
        refine gx_iconst 228 dX2_named_228 ?_
        refine gx_sub [0, 1] rfl ?_
        exact hj68 _ _ _ h
      · replace h := if_t h c69
        refine gx_iconst 224 dX2_named_224 ?_
        refine gx_goto 225 229 dX2_named_225 (by decide) ?_
        refine gx_sub [0, 1] rfl ?_
        exact hj68 _ _ _ h
    replace h := if_f h c41
    by_cases c70 : i32 x4_7 = 2
    · replace h := if_t h c70
      refine gx_tableIn 88 285 2 dX2_named_88 c70 (by decide) (by decide) rfl (by decide) ?_
      refine gx_aload_n 285 0 dX2_named_285 rfl ?_
      obtain ⟨g71, h⟩ := gd_e h
      refine gx_get (t := 3) (k := 6) (v := .ref (ad x0 (s8 7 6))) 286 cw3 (by decide) (tgs (show stc 7 = (3, 0) by decide) (by decide)) q358 same_f (rf_ne g71) dX2_named_286 ?_
      obtain ⟨g72, h⟩ := gd_e h
      obtain ⟨g73, h⟩ := gd_e h
      refine gx_getN (t := 2) (k := 5) (v := .ref (ad x0 (s8 (s8 7 6) 5))) 289 cw2 (by decide) g72 q246 same_f (rf_ne g73) dX2_named_289 ?_
      refine gx_aload_n 292 0 dX2_named_292 rfl ?_
      obtain ⟨z74, ez74, h⟩ := opt_e h
      by_cases c75 : z74.1 = 0
      rotate_left
      · replace h := if_f h c75
        exact gx_callTX (As := []) (rest := [.ref (ad x0 (s8 (s8 7 6) 5))]) 293 0 rfl cw3 (tgs (show stc 7 = (3, 0) by decide) (by decide)) c75 (mx2_name ez74 l) (lw_V q832 q834 qs15 q152 q835) (by decide +kernel) (by decide) rfl rfl (Nat.le_of_ble_eq_true rfl) dX2_named_293 h
      replace h := if_t h c75
      refine gx_callT (As := []) (rest := [.ref (ad x0 (s8 (s8 7 6) 5))]) (st' := [.ref (ad x0 z74.2.1), .ref (ad x0 (s8 (s8 7 6) 5))]) 293 0 cw3 (tgs (show stc 7 = (3, 0) by decide) (by decide)) c75 (mx2_name ez74 l) (lw_V q832 q834 qs15 q152 q835) (by decide +kernel) (by decide) rfl rfl (Nat.le_of_ble_eq_true rfl) dX2_named_293 rfl ?_
      obtain ⟨z76, ez76, h⟩ := opt_e h
      refine gx_callS (As := [.ref (ad x0 (s8 (s8 7 6) 5)), .ref (ad x0 z74.2.1)]) (rest := []) (st' := [J z76.1]) 296 2 (mx9_find ez76 l) (lw_S q1008 q855 q167 q856) (by decide +kernel) (by decide) rfl rfl (Nat.le_of_ble_eq_true rfl) dX2_named_296 rfl ?_
      obtain ⟨x10_77, ex10_77, h⟩ := bnd_e h
      refine gx_istore 299 [(10, J x10_77), (0, .ref (ad x0 7)), (2, J x2_6), (4, J x4_7)] dX2_named_299 (by decide) ex10_77 rfl ?_
      refine gx_iload 301 0 dX2_named_301 rfl ?_
      refine gx_iconst 303 dX2_named_303 ?_
      obtain ⟨j81, ej81, h⟩ := bnd_e h
      have hj81 : ∀ (s78 : XS), j81 s78 = some res → GX l cX2_named "VerbAtDusk$Reader" 11 (some .boolean) "named" [] x0 D true 1 9 cN sN res s78 322 [(0, .ref (ad x0 7))] [] := by
        clear h
        intro s78 h
        subst ej81
        refine gx_aload_n 322 0 dX2_named_322 rfl ?_
        refine gx_iconst 323 dX2_named_323 ?_
        refine gx_aload_n 324 0 dX2_named_324 rfl ?_
        refine gx_get (t := 3) (k := 3) (v := J (s78 7 3)) 325 cw3 (by decide) (tgs (show stc 7 = (3, 0) by decide) (by decide)) q355 same_f rfl dX2_named_325 ?_
        obtain ⟨z79, ez79, h⟩ := opt_e h
        refine gx_callV (As := [J 3, J (s78 7 3)]) (rest := []) (st' := [.ref (ad x0 z79.1)]) 328 2 cw3 (tgs (show stc 7 = (3, 0) by decide) (by decide)) (mx2_wrong ez79 l) (lw_V q647 q649 qs8 q152 q650) (by decide +kernel) (by decide) rfl rfl (Nat.le_of_ble_eq_true rfl) dX2_named_328 rfl ?_
        obtain ⟨g80, h⟩ := gd_e h
        rw [g80]
        exact gx_athrowE 331 rfl rfl (tgs (show stc 8 = (4, 0) by decide) (by decide)) cw4 dX2_named_331 h
      refine gx_icmp_eq 304 322 dX2_named_304 (by decide) (fun c82 => ?_) (fun c82 => ?_)
      · replace h := if_t h c82
        refine gx_sub [1] rfl ?_
        exact hj81 _ h
      · replace h := if_f h c82
        refine gx_aload_n 307 1 dX2_named_307 rfl ?_
        obtain ⟨g83, h⟩ := gd_e h
        refine gx_get (t := 3) (k := 6) (v := .ref (ad x0 (z76.2 7 6))) 308 cw3 (by decide) (tgs (show stc 7 = (3, 0) by decide) (by decide)) q358 same_f (rf_ne g83) dX2_named_308 ?_
        obtain ⟨g84, h⟩ := gd_e h
        refine gx_getN (t := 2) (k := 2) (v := J (z76.2 (z76.2 7 6) 2)) 311 cw2 (by decide) g84 q237 same_f rfl dX2_named_311 ?_
        refine gx_iload 314 0 dX2_named_314 rfl ?_
        obtain ⟨z85, ez85, h⟩ := opt_e h
        refine gx_callSN (As := [J (z76.2 (z76.2 7 6) 2), J x10_77]) (rest := []) (st' := [J z85.1]) 316 2 (mx0_has ez85 l) q1011 q147 q1009 q1010 (by decide +kernel) (by decide) rfl rfl (Nat.le_of_ble_eq_true rfl) dX2_named_316 rfl ?_
        refine gx_if_eq 319 332 dX2_named_319 (by decide) (fun c86 => ?_) (fun c86 => ?_)
        · replace h := if_t h c86
          refine gx_aload_n 332 1 dX2_named_332 rfl ?_
          obtain ⟨g87, h⟩ := gd_e h
          refine gx_get (t := 3) (k := 6) (v := .ref (ad x0 (z85.2 7 6))) 333 cw3 (by decide) (tgs (show stc 7 = (3, 0) by decide) (by decide)) q358 same_f (rf_ne g87) dX2_named_333 ?_
          refine gx_dup 336 dX2_named_336 rfl ?_
          obtain ⟨g88, h⟩ := gd_e h
          refine gx_getN (t := 2) (k := 2) (v := J (z85.2 (z85.2 7 6) 2)) 337 cw2 (by decide) g88 q237 same_f rfl dX2_named_337 ?_
          refine gx_iconst 340 dX2_named_340 ?_
          refine gx_iload 341 0 dX2_named_341 rfl ?_
          refine gx_ishl 343 dX2_named_343 ?_
          refine gx_ior 344 dX2_named_344 ?_
          obtain ⟨g89, h⟩ := gd_e h
          obtain ⟨g90, h⟩ := gd_e h
          obtain ⟨s91, es91, h⟩ := bnd_e h
          refine gx_putN (t := 2) (k := 2) (x := (ior (z85.2 (z85.2 7 6) 2) (ishl 1 x10_77))) (ty := .int) 345 cw2 (by decide) g89 g90.1 g90.2 q237 same_f rfl (by decide +kernel) rfl rfl (congrArg J (ux_s _ _ _ _)) es91 dX2_named_345 ?_
          refine gx_iconst 348 dX2_named_348 ?_
          exact gx_zret 349 dX2_named_349 (by decide) h
        · replace h := if_f h c86
          refine gx_sub [1] rfl ?_
          exact hj81 _ h
    replace h := if_f h c70
    refine gx_tableOut 88 350 dX2_named_88 (by omega) (by decide) ?_
    refine gx_iconst 350 dX2_named_350 ?_
    exact gx_zret 351 dX2_named_351 (by decide) h
  by_cases c93 : i32 z4.1 = (-909324265)
  · replace h := if_t h c93
    refine gx_lookup (off := 35) 9 44 dX2_named_9 (by decide) (by rw [c93]; try rfl) (by decide) ?_
    refine gx_aload_n 44 1 dX2_named_44 rfl ?_
    refine gx_ldcS (j := 21) (tx := "saying") 45 (by decide) rfl dX2_named_45 ?_
    obtain ⟨g95, h⟩ := gd_e h
    obtain ⟨z94, ez94, h⟩ := opt_e h
    refine gx_callV (As := [.ref (ad x0 (z4.2 (-1) 121))]) (rest := []) (st' := [J z94.1]) 47 1 cw22 g95 (mj6_equals ez94 l) (lw_V q736 q737 q738 q162 q739) (by decide +kernel) (by decide) rfl rfl (Nat.le_of_ble_eq_true rfl) dX2_named_47 rfl ?_
    refine gx_if_eq 50 86 dX2_named_50 (by decide) (fun c96 => ?_) (fun c96 => ?_)
    · replace h := if_t h c96
      refine gx_sub [2, 4, 0] rfl ?_
      exact hj92 _ _ _ h
    · replace h := if_f h c96
      refine gx_iconst 53 dX2_named_53 ?_
      obtain ⟨x4_97, ex4_97, h⟩ := bnd_e h
      refine gx_istore 54 [(4, J x4_97), (3, .ref (ad x0 a1)), (0, .ref (ad x0 7)), (1, .ref (ad x0 a1)), (2, J a2)] dX2_named_54 (by decide) ex4_97 rfl ?_
      refine gx_goto 56 86 dX2_named_56 (by decide) ?_
      refine gx_sub [2, 4, 0] rfl ?_
      exact hj92 _ _ _ h
  replace h := if_f h c93
  by_cases c98 : i32 z4.1 = 3318015
  · replace h := if_t h c98
    refine gx_lookup (off := 65) 9 74 dX2_named_9 (by decide) (by rw [c98]; try rfl) (by decide) ?_
    refine gx_aload_n 74 1 dX2_named_74 rfl ?_
    refine gx_ldcS (j := 23) (tx := "lent") 75 (by decide) rfl dX2_named_75 ?_
    obtain ⟨g100, h⟩ := gd_e h
    obtain ⟨z99, ez99, h⟩ := opt_e h
    refine gx_callV (As := [.ref (ad x0 (z4.2 (-1) 123))]) (rest := []) (st' := [J z99.1]) 77 1 cw22 g100 (mj6_equals ez99 l) (lw_V q736 q737 q738 q162 q739) (by decide +kernel) (by decide) rfl rfl (Nat.le_of_ble_eq_true rfl) dX2_named_77 rfl ?_
    refine gx_if_eq 80 86 dX2_named_80 (by decide) (fun c101 => ?_) (fun c101 => ?_)
    · replace h := if_t h c101
      refine gx_sub [2, 4, 0] rfl ?_
      exact hj92 _ _ _ h
    · replace h := if_f h c101
      refine gx_iconst 83 dX2_named_83 ?_
      obtain ⟨x4_102, ex4_102, h⟩ := bnd_e h
      refine gx_istore 84 [(4, J x4_102), (3, .ref (ad x0 a1)), (0, .ref (ad x0 7)), (1, .ref (ad x0 a1)), (2, J a2)] dX2_named_84 (by decide) ex4_102 rfl ?_
      refine gx_sub [2, 4, 0] rfl ?_
      exact hj92 _ _ _ h
  replace h := if_f h c98
  by_cases c103 : i32 z4.1 = 3616031
  · replace h := if_t h c103
    refine gx_lookup (off := 50) 9 59 dX2_named_9 (by decide) (by rw [c103]; try rfl) (by decide) ?_
    refine gx_aload_n 59 1 dX2_named_59 rfl ?_
    refine gx_ldcS (j := 22) (tx := "verb") 60 (by decide) rfl dX2_named_60 ?_
    obtain ⟨g105, h⟩ := gd_e h
    obtain ⟨z104, ez104, h⟩ := opt_e h
    refine gx_callV (As := [.ref (ad x0 (z4.2 (-1) 122))]) (rest := []) (st' := [J z104.1]) 62 1 cw22 g105 (mj6_equals ez104 l) (lw_V q736 q737 q738 q162 q739) (by decide +kernel) (by decide) rfl rfl (Nat.le_of_ble_eq_true rfl) dX2_named_62 rfl ?_
    refine gx_if_eq 65 86 dX2_named_65 (by decide) (fun c106 => ?_) (fun c106 => ?_)
    · replace h := if_t h c106
      refine gx_sub [2, 4, 0] rfl ?_
      exact hj92 _ _ _ h
    · replace h := if_f h c106
      refine gx_iconst 68 dX2_named_68 ?_
      obtain ⟨x4_107, ex4_107, h⟩ := bnd_e h
      refine gx_istore 69 [(4, J x4_107), (3, .ref (ad x0 a1)), (0, .ref (ad x0 7)), (1, .ref (ad x0 a1)), (2, J a2)] dX2_named_69 (by decide) ex4_107 rfl ?_
      refine gx_goto 71 86 dX2_named_71 (by decide) ?_
      refine gx_sub [2, 4, 0] rfl ?_
      exact hj92 _ _ _ h
  replace h := if_f h c103
  refine gx_lookup (off := 77) 9 86 dX2_named_9 (by decide) (by simp [Op.lookupswitch.offset, c93, Ne.symm c93, c98, Ne.symm c98, c103, Ne.symm c103]) (by decide) ?_
  refine gx_sub [2, 4, 0] rfl ?_
  exact hj92 _ _ _ h
