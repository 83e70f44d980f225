/-! THE SYSTEM: methods as functions, and their walks (written by xparts.py) -/
set_option maxRecDepth 100000
/-! VerbAtDusk$State.asks -/
noncomputable def x7_asks (a0 : Int) (a1 : Int) (a2 : Int) (s0 : XS) : Option (Int × XS) :=
  gd (isSt a0) <|
  gd (ok 6 a1) <|
  gd (ok 9 0) <|
  bnd (ux s0 10 (i32 0) (i32 (s0 (a0 + 3) (i32 a1)))) fun s5 =>
  gd (¬ (s5 0 0) = -1) <|
  gd (tg true s5 (s5 0 0) = 2) <|
  gd (¬ (s5 (s5 0 0) 5) = -1) <|
  gd (tg true s5 (s5 (s5 0 0) 5) = 21) <|
  Option.bind (j2_get true (s5 (s5 0 0) 5) a2 s5) fun z9 =>
  gd (tg true z9.2 z9.1 = 10) <|
  gd (tg true z9.2 z9.1 = 10) <|
  gd (ok 9 1) <|
  bnd (ux z9.2 10 (i32 1) (i32 (z9.2 z9.1 1))) fun s14 =>
  gd (¬ (s14 0 0) = -1) <|
  gd (tg true s14 (s14 0 0) = 2) <|
  gd (¬ (s14 (s14 0 0) 5) = -1) <|
  gd (tg true s14 (s14 (s14 0 0) 5) = 21) <|
  Option.bind (j2_get true (s14 (s14 0 0) 5) a2 s14) fun z18 =>
  gd (tg true z18.2 z18.1 = 10) <|
  gd (tg true z18.2 z18.1 = 10) <|
  gd (ok 9 2) <|
  bnd (ux z18.2 10 (i32 2) (i32 (z18.2 z18.1 2))) fun s23 =>
  gd (ok 6 a1) <|
  gd (ok 7 a2) <|
  gd (ok 9 3) <|
  bnd (ux s23 10 (i32 3) (i32 (s23 ((a0 + 5) + 1 + i32 a1) (i32 a2)))) fun s27 =>
  gd (ok 9 4) <|
  bnd (ux s27 10 (i32 4) (i32 (s27 a0 0))) fun s29 =>
  some (0, s29)
theorem mx7_asks {x0 : Nat} {D : XD} {a0 : Int} {a1 : Int} {a2 : Int} {s0 : XS} {res : Int × XS} (h : x7_asks a0 a1 a2 s0 = some res) (l : Launch) : XMet0 l yX7_asks cX7_asks 3 none 4 true x0 D [.ref (ad x0 a0), J a1, J a2] s0 0 res := by
  refine XMet0.ofn [(0, .ref (ad x0 a0)), (1, J a1), (2, J a2)] "VerbAtDusk$State" "asks" rfl rfl (plainFor_of_name (by decide)) (Nat.le_of_ble_eq_true rfl) rfl ?_
  unfold x7_asks at h
  generalize nC s0 = cN
  generalize nS s0 = sN
  obtain ⟨ga0, h⟩ := gd_e h
  refine gx_aload_n 0 0 dX7_asks_0 rfl ?_
  refine gx_get (t := 8) (k := 9) (v := .ref (ad x0 0)) 1 cw8 (by decide) (tgs (st_0 ga0) (by decide)) q493 same_f (rf_ne (nes (show stc 0 = (1, 0) by decide) (by decide))) dX7_asks_1 ?_
  refine gx_getN (t := 1) (k := 6) (v := .ref (ad x0 9)) 4 cw1 (by decide) (tgs (show stc 0 = (1, 0) by decide) (by decide)) q526 same_f (rf_ne (nes (show stc 9 = (5, 0) by decide) (by decide))) dX7_asks_4 ?_
  refine gx_getN (t := 5) (k := 0) (v := .ref (ad x0 10)) 7 cw5 (by decide) (tgs (show stc 9 = (5, 0) by decide) (by decide)) q385 same_f (rf_ne (nes (show stc 10 = (104, 9) by decide) (by decide))) dX7_asks_7 ?_
  refine gx_iconst 10 dX7_asks_10 ?_
  refine gx_aload_n 11 0 dX7_asks_11 rfl ?_
  refine gx_get (t := 8) (k := 5) (v := .ref (ad x0 (a0 + 3))) 12 cw8 (by decide) (tgs (st_0 ga0) (by decide)) q485 same_f (rf_ne (nes (st_3 ga0) (by decide))) dX7_asks_12 ?_
  refine gx_iload_n 15 1 dX7_asks_15 rfl ?_
  obtain ⟨g3, h⟩ := gd_e h
  refine gx_iald 16 (tgs (st_3 ga0) (by decide)) (oks (st_3 ga0) (by decide) g3) dX7_asks_16 ?_
  refine gx_i2l 17 dX7_asks_17 ?_
  obtain ⟨g4, h⟩ := gd_e h
  obtain ⟨s5, es5, h⟩ := bnd_e h
  refine gx_last 18 (tgs (show stc 10 = (104, 9) by decide) (by decide)) (st0 (show stc 10 = (104, 9) by decide) (by decide)) (stm (show stc 10 = (104, 9) by decide) (by decide)) (oks (show stc 10 = (104, 9) by decide) (by decide) g4) es5 dX7_asks_18 ?_
  refine gx_aload_n 19 0 dX7_asks_19 rfl ?_
  refine gx_get (t := 8) (k := 9) (v := .ref (ad x0 0)) 20 cw8 (by decide) (tgs (st_0 ga0) (by decide)) q493 same_f (rf_ne (nes (show stc 0 = (1, 0) by decide) (by decide))) dX7_asks_20 ?_
  refine gx_getN (t := 1) (k := 6) (v := .ref (ad x0 9)) 23 cw1 (by decide) (tgs (show stc 0 = (1, 0) by decide) (by decide)) q526 same_f (rf_ne (nes (show stc 9 = (5, 0) by decide) (by decide))) dX7_asks_23 ?_
  refine gx_getN (t := 5) (k := 0) (v := .ref (ad x0 10)) 26 cw5 (by decide) (tgs (show stc 9 = (5, 0) by decide) (by decide)) q385 same_f (rf_ne (nes (show stc 10 = (104, 9) by decide) (by decide))) dX7_asks_26 ?_
  refine gx_iconst 29 dX7_asks_29 ?_
  refine gx_aload_n 30 0 dX7_asks_30 rfl ?_
  refine gx_get (t := 8) (k := 9) (v := .ref (ad x0 0)) 31 cw8 (by decide) (tgs (st_0 ga0) (by decide)) q493 same_f (rf_ne (nes (show stc 0 = (1, 0) by decide) (by decide))) dX7_asks_31 ?_
  obtain ⟨g6, h⟩ := gd_e h
  refine gx_getN (t := 1) (k := 0) (v := .ref (ad x0 (s5 0 0))) 34 cw1 (by decide) (tgs (show stc 0 = (1, 0) by decide) (by decide)) q517 same_f (rf_ne g6) dX7_asks_34 ?_
  obtain ⟨g7, h⟩ := gd_e h
  obtain ⟨g8, h⟩ := gd_e h
  refine gx_getN (t := 2) (k := 5) (v := .ref (ad x0 (s5 (s5 0 0) 5))) 37 cw2 (by decide) g7 q245 same_f (rf_ne g8) dX7_asks_37 ?_
  refine gx_iload_n 40 2 dX7_asks_40 rfl ?_
  obtain ⟨g10, h⟩ := gd_e h
  obtain ⟨z9, ez9, h⟩ := opt_e h
  refine gx_callF (As := [J a2]) (rest := [J 1, .ref (ad x0 10)]) (st' := [.ref (ad x0 z9.1), J 1, .ref (ad x0 10)]) 41 1 cw21 rfl g10  (mj2_get ez9 l) (lw_app (lw_in4 q1295 q863 q865 q151) (lw_meth q867)) (by decide) (by decide +kernel) (by decide) rfl rfl (Nat.le_of_ble_eq_true rfl) dX7_asks_41 rfl ?_
  obtain ⟨g11, h⟩ := gd_e h
  refine gx_castS 46 cw10 g11 q1368 dX7_asks_46 ?_
  obtain ⟨g12, h⟩ := gd_e h
  refine gx_getN (t := 10) (k := 1) (v := J (z9.2 z9.1 1)) 49 cw10 (by decide) g12 q997 same_f rfl dX7_asks_49 ?_
  refine gx_i2l 52 dX7_asks_52 ?_
  obtain ⟨g13, h⟩ := gd_e h
  obtain ⟨s14, es14, h⟩ := bnd_e h
  refine gx_last 53 (tgs (show stc 10 = (104, 9) by decide) (by decide)) (st0 (show stc 10 = (104, 9) by decide) (by decide)) (stm (show stc 10 = (104, 9) by decide) (by decide)) (oks (show stc 10 = (104, 9) by decide) (by decide) g13) es14 dX7_asks_53 ?_
  refine gx_aload_n 54 0 dX7_asks_54 rfl ?_
  refine gx_get (t := 8) (k := 9) (v := .ref (ad x0 0)) 55 cw8 (by decide) (tgs (st_0 ga0) (by decide)) q493 same_f (rf_ne (nes (show stc 0 = (1, 0) by decide) (by decide))) dX7_asks_55 ?_
  refine gx_getN (t := 1) (k := 6) (v := .ref (ad x0 9)) 58 cw1 (by decide) (tgs (show stc 0 = (1, 0) by decide) (by decide)) q526 same_f (rf_ne (nes (show stc 9 = (5, 0) by decide) (by decide))) dX7_asks_58 ?_
  refine gx_getN (t := 5) (k := 0) (v := .ref (ad x0 10)) 61 cw5 (by decide) (tgs (show stc 9 = (5, 0) by decide) (by decide)) q385 same_f (rf_ne (nes (show stc 10 = (104, 9) by decide) (by decide))) dX7_asks_61 ?_
  refine gx_iconst 64 dX7_asks_64 ?_
  refine gx_aload_n 65 0 dX7_asks_65 rfl ?_
  refine gx_get (t := 8) (k := 9) (v := .ref (ad x0 0)) 66 cw8 (by decide) (tgs (st_0 ga0) (by decide)) q493 same_f (rf_ne (nes (show stc 0 = (1, 0) by decide) (by decide))) dX7_asks_66 ?_
  obtain ⟨g15, h⟩ := gd_e h
  refine gx_getN (t := 1) (k := 0) (v := .ref (ad x0 (s14 0 0))) 69 cw1 (by decide) (tgs (show stc 0 = (1, 0) by decide) (by decide)) q517 same_f (rf_ne g15) dX7_asks_69 ?_
  obtain ⟨g16, h⟩ := gd_e h
  obtain ⟨g17, h⟩ := gd_e h
  refine gx_getN (t := 2) (k := 5) (v := .ref (ad x0 (s14 (s14 0 0) 5))) 72 cw2 (by decide) g16 q245 same_f (rf_ne g17) dX7_asks_72 ?_
  refine gx_iload_n 75 2 dX7_asks_75 rfl ?_
  obtain ⟨g19, h⟩ := gd_e h
  obtain ⟨z18, ez18, h⟩ := opt_e h
  refine gx_callF (As := [J a2]) (rest := [J 2, .ref (ad x0 10)]) (st' := [.ref (ad x0 z18.1), J 2, .ref (ad x0 10)]) 76 1 cw21 rfl g19  (mj2_get ez18 l) (lw_app (lw_in4 q1295 q863 q865 q151) (lw_meth q867)) (by decide) (by decide +kernel) (by decide) rfl rfl (Nat.le_of_ble_eq_true rfl) dX7_asks_76 rfl ?_
  obtain ⟨g20, h⟩ := gd_e h
  refine gx_castS 81 cw10 g20 q1368 dX7_asks_81 ?_
  obtain ⟨g21, h⟩ := gd_e h
  refine gx_getN (t := 10) (k := 2) (v := J (z18.2 z18.1 2)) 84 cw10 (by decide) g21 q1000 same_f rfl dX7_asks_84 ?_
  refine gx_i2l 87 dX7_asks_87 ?_
  obtain ⟨g22, h⟩ := gd_e h
  obtain ⟨s23, es23, h⟩ := bnd_e h
  refine gx_last 88 (tgs (show stc 10 = (104, 9) by decide) (by decide)) (st0 (show stc 10 = (104, 9) by decide) (by decide)) (stm (show stc 10 = (104, 9) by decide) (by decide)) (oks (show stc 10 = (104, 9) by decide) (by decide) g22) es23 dX7_asks_88 ?_
  refine gx_aload_n 89 0 dX7_asks_89 rfl ?_
  refine gx_get (t := 8) (k := 9) (v := .ref (ad x0 0)) 90 cw8 (by decide) (tgs (st_0 ga0) (by decide)) q493 same_f (rf_ne (nes (show stc 0 = (1, 0) by decide) (by decide))) dX7_asks_90 ?_
  refine gx_getN (t := 1) (k := 6) (v := .ref (ad x0 9)) 93 cw1 (by decide) (tgs (show stc 0 = (1, 0) by decide) (by decide)) q526 same_f (rf_ne (nes (show stc 9 = (5, 0) by decide) (by decide))) dX7_asks_93 ?_
  refine gx_getN (t := 5) (k := 0) (v := .ref (ad x0 10)) 96 cw5 (by decide) (tgs (show stc 9 = (5, 0) by decide) (by decide)) q385 same_f (rf_ne (nes (show stc 10 = (104, 9) by decide) (by decide))) dX7_asks_96 ?_
  refine gx_iconst 99 dX7_asks_99 ?_
  refine gx_aload_n 100 0 dX7_asks_100 rfl ?_
  refine gx_get (t := 8) (k := 7) (v := .ref (ad x0 (a0 + 5))) 101 cw8 (by decide) (tgs (st_0 ga0) (by decide)) q489 same_f (rf_ne (nes (st_5 ga0) (by decide))) dX7_asks_101 ?_
  refine gx_iload_n 104 1 dX7_asks_104 rfl ?_
  obtain ⟨g24, h⟩ := gd_e h
  refine gx_aald (t := 121) (ty := (.array .int)) (r := ((a0 + 5) + 1 + i32 a1)) 105 (by decide) rfl (by decide) (tgs (st_5 ga0) (by decide)) (oks (st_5 ga0) (by decide) g24) rfl (nes (st_g ga0 g24) (by decide)) dX7_asks_105 ?_
  refine gx_iload_n 106 2 dX7_asks_106 rfl ?_
  obtain ⟨g25, h⟩ := gd_e h
  refine gx_iald 107 (tgs (st_g ga0 g24) (by decide)) (oks (st_g ga0 g24) (by decide) g25) dX7_asks_107 ?_
  refine gx_i2l 108 dX7_asks_108 ?_
  obtain ⟨g26, h⟩ := gd_e h
  obtain ⟨s27, es27, h⟩ := bnd_e h
  refine gx_last 109 (tgs (show stc 10 = (104, 9) by decide) (by decide)) (st0 (show stc 10 = (104, 9) by decide) (by decide)) (stm (show stc 10 = (104, 9) by decide) (by decide)) (oks (show stc 10 = (104, 9) by decide) (by decide) g26) es27 dX7_asks_109 ?_
  refine gx_aload_n 110 0 dX7_asks_110 rfl ?_
  refine gx_get (t := 8) (k := 9) (v := .ref (ad x0 0)) 111 cw8 (by decide) (tgs (st_0 ga0) (by decide)) q493 same_f (rf_ne (nes (show stc 0 = (1, 0) by decide) (by decide))) dX7_asks_111 ?_
  refine gx_getN (t := 1) (k := 6) (v := .ref (ad x0 9)) 114 cw1 (by decide) (tgs (show stc 0 = (1, 0) by decide) (by decide)) q526 same_f (rf_ne (nes (show stc 9 = (5, 0) by decide) (by decide))) dX7_asks_114 ?_
  refine gx_getN (t := 5) (k := 0) (v := .ref (ad x0 10)) 117 cw5 (by decide) (tgs (show stc 9 = (5, 0) by decide) (by decide)) q385 same_f (rf_ne (nes (show stc 10 = (104, 9) by decide) (by decide))) dX7_asks_117 ?_
  refine gx_iconst 120 dX7_asks_120 ?_
  refine gx_aload_n 121 0 dX7_asks_121 rfl ?_
  refine gx_get (t := 8) (k := 0) (v := J (s27 a0 0)) 122 cw8 (by decide) (tgs (st_0 ga0) (by decide)) q473 same_f rfl dX7_asks_122 ?_
  refine gx_i2l 125 dX7_asks_125 ?_
  obtain ⟨g28, h⟩ := gd_e h
  obtain ⟨s29, es29, h⟩ := bnd_e h
  refine gx_last 126 (tgs (show stc 10 = (104, 9) by decide) (by decide)) (st0 (show stc 10 = (104, 9) by decide) (by decide)) (stm (show stc 10 = (104, 9) by decide) (by decide)) (oks (show stc 10 = (104, 9) by decide) (by decide) g28) es29 dX7_asks_126 ?_
  exact gx_vret 127 dX7_asks_127 (rt h)
/-! VerbAtDusk$State.sack -/
noncomputable def x7_sack (a0 : Int) (s0 : XS) : Option (Int × XS) :=
  gd (isSt a0) <|
  Option.bind (x0_verbs s0) fun z1 =>
  some ((iand ((ishl 1 z1.1) - 1) (ixor (z1.2 a0 1) (-1))), z1.2)
theorem mx7_sack {x0 : Nat} {D : XD} {a0 : Int} {s0 : XS} {res : Int × XS} (h : x7_sack a0 s0 = some res) (l : Launch) : XMet0 l yX7_sack cX7_sack 1 (some .int) 3 true x0 D [.ref (ad x0 a0)] s0 1 res := by
  refine XMet0.ofn [(0, .ref (ad x0 a0))] "VerbAtDusk$State" "sack" rfl rfl (plainFor_of_name (by decide)) (Nat.le_of_ble_eq_true rfl) rfl ?_
  unfold x7_sack at h
  generalize nC s0 = cN
  generalize nS s0 = sN
  obtain ⟨ga0, h⟩ := gd_e h
  refine gx_iconst 0 dX7_sack_0 ?_
  refine gx_aload_n 1 0 dX7_sack_1 rfl ?_
  refine gx_get (t := 8) (k := 9) (v := .ref (ad x0 0)) 2 cw8 (by decide) (tgs (st_0 ga0) (by decide)) q493 same_f (rf_ne (nes (show stc 0 = (1, 0) by decide) (by decide))) dX7_sack_2 ?_
  obtain ⟨z1, ez1, h⟩ := opt_e h
  refine gx_callVN (As := []) (rest := [J 1]) (st' := [J z1.1, J 1]) 5 0 cw1 (tgs (show stc 0 = (1, 0) by decide) (by decide)) (mx0_verbs ez1 l) q1309 q147 q1460 q1308 qs34 (by decide +kernel) (by decide) rfl rfl (Nat.le_of_ble_eq_true rfl) dX7_sack_5 rfl ?_
  refine gx_ishl 8 dX7_sack_8 ?_
  refine gx_iconst 9 dX7_sack_9 ?_
  refine gx_isub 10 dX7_sack_10 ?_
  refine gx_aload_n 11 0 dX7_sack_11 rfl ?_
  refine gx_get (t := 8) (k := 1) (v := J (z1.2 a0 1)) 12 cw8 (by decide) (tgs (st_0 ga0) (by decide)) q475 same_f rfl dX7_sack_12 ?_
  refine gx_iconst 15 dX7_sack_15 ?_
  refine gx_ixor 16 dX7_sack_16 ?_
  refine gx_iand 17 dX7_sack_17 ?_
  exact gx_iret 18 dX7_sack_18 (rt h)
/-! VerbAtDusk$State.begins -/
noncomputable def x7_begins_L123 (a0 : Int) (k144 : Int → XS → Option (Int × XS)) : Nat → Int → Int → XS → Option (Int × XS)
  | 0, _, _, _ => none
  | n + 1, x1_40, x2_41, s42 =>
    if i32 7 ≤ i32 x2_41 then
      k144 x1_40 s42
    else
      gd (ok 6 x1_40) <|
      gd (ok 7 x2_41) <|
      bnd (ux s42 ((a0 + 5) + 1 + i32 x1_40) (i32 x2_41) 0) fun s48 =>
      bnd (x2_41 + 1) fun x2_49 =>
      x7_begins_L123 a0 k144 n x1_40 x2_49 s48
noncomputable def x7_begins_L26 (a0 : Int) (k150 : XS → Option (Int × XS)) : Nat → Int → XS → Option (Int × XS)
  | 0, _, _ => none
  | n + 1, x1_7, s8 =>
    Option.bind (x0_sayings s8) fun z10 =>
    if i32 z10.1 ≤ i32 x1_7 then
      k150 z10.2
    else
      gd (¬ (z10.2 0 0) = -1) <|
      gd (tg true z10.2 (z10.2 0 0) = 2) <|
      gd (¬ (z10.2 (z10.2 0 0) 4) = -1) <|
      gd (tg true z10.2 (z10.2 (z10.2 0 0) 4) = 21) <|
      Option.bind (j2_get true (z10.2 (z10.2 0 0) 4) x1_7 z10.2) fun z15 =>
      gd (tg true z15.2 z15.1 = 9) <|
      gd (tg true z15.2 z15.1 = 9) <|
      gd (ok 6 x1_7) <|
      bnd (ux z15.2 (a0 + 1) (i32 x1_7) (z15.2 z15.1 1)) fun s20 =>
      gd (¬ (s20 0 0) = -1) <|
      gd (tg true s20 (s20 0 0) = 2) <|
      gd (¬ (s20 (s20 0 0) 4) = -1) <|
      gd (tg true s20 (s20 (s20 0 0) 4) = 21) <|
      Option.bind (j2_get true (s20 (s20 0 0) 4) x1_7 s20) fun z24 =>
      gd (tg true z24.2 z24.1 = 9) <|
      gd (tg true z24.2 z24.1 = 9) <|
      gd (ok 6 x1_7) <|
      bnd (ux z24.2 (a0 + 2) (i32 x1_7) (z24.2 z24.1 2)) fun s29 =>
      gd (¬ (s29 0 0) = -1) <|
      gd (tg true s29 (s29 0 0) = 2) <|
      gd (¬ (s29 (s29 0 0) 4) = -1) <|
      gd (tg true s29 (s29 (s29 0 0) 4) = 21) <|
      Option.bind (j2_get true (s29 (s29 0 0) 4) x1_7 s29) fun z33 =>
      gd (tg true z33.2 z33.1 = 9) <|
      gd (tg true z33.2 z33.1 = 9) <|
      gd (ok 6 x1_7) <|
      bnd (ux z33.2 (a0 + 3) (i32 x1_7) (z33.2 z33.1 3)) fun s38 =>
      bnd 0 fun x2_39 =>
      x7_begins_L123 a0
        (fun (x1_50 : Int) (s51 : XS) =>
          bnd (x1_50 + 1) fun x1_52 =>
          x7_begins_L26 a0 k150 n x1_52 s51)
        FU x1_7 x2_39 s38
noncomputable def x7_begins (a0 : Int) (s0 : XS) : Option (Int × XS) :=
  gd (isSt a0) <|
  bnd (ux s0 a0 0 0) fun s1 =>
  bnd (ux s1 a0 2 0) fun s2 =>
  gd (¬ (s2 0 0) = -1) <|
  gd (tg true s2 (s2 0 0) = 2) <|
  bnd (ux s2 a0 1 (s2 (s2 0 0) 2)) fun s5 =>
  bnd 0 fun x1_6 =>
  x7_begins_L26 a0
    (fun (s53 : XS) =>
      some (0, s53))
    FU x1_6 s5
theorem wx7_begins_L123 {l : Launch} {x0 : Nat} {D : XD} {cN sN : Nat} {res : Int × XS} {a0 : Int} (ga0 : isSt a0) {k144 : Int → XS → Option (Int × XS)} (hk144 : ∀ (x1_43 : Int) (s44 : XS), k144 x1_43 s44 = some res → GX l cX7_begins "VerbAtDusk$State" 3 none "begins" [] x0 D true 0 4 cN sN (0, res) s44 144 [(0, .ref (ad x0 a0)), (1, J x1_43)] []) : ∀ (n : Nat) (x1_40 : Int) (x2_41 : Int) (s42 : XS), x7_begins_L123 a0 k144 n x1_40 x2_41 s42 = some res → GX l cX7_begins "VerbAtDusk$State" 3 none "begins" [] x0 D true 0 4 cN sN (0, res) s42 123 [(0, .ref (ad x0 a0)), (1, J x1_40), (2, J x2_41)] [] := by
  intro n
  induction n with
  | zero =>
    intro x1_40 x2_41 s42 h
    cases h
  | succ n ih =>
    intro x1_40 x2_41 s42 h
    rw [x7_begins_L123] at h
    refine gx_iload_n 123 2 dX7_begins_123 rfl ?_
    refine gx_bipush 124 dX7_begins_124 (by decide) ?_
    refine gx_icmp_ge 126 144 dX7_begins_126 (by decide) (fun c45 => ?_) (fun c45 => ?_)
    · replace h := if_t h c45
      refine gx_sub [0, 1] rfl ?_
      exact hk144 _ _ h
    · replace h := if_f h c45
      refine gx_aload_n 129 0 dX7_begins_129 rfl ?_
      refine gx_get (t := 8) (k := 7) (v := .ref (ad x0 (a0 + 5))) 130 cw8 (by decide) (tgs (st_0 ga0) (by decide)) q489 same_f (rf_ne (nes (st_5 ga0) (by decide))) dX7_begins_130 ?_
      refine gx_iload_n 133 1 dX7_begins_133 rfl ?_
      obtain ⟨g46, h⟩ := gd_e h
      refine gx_aald (t := 121) (ty := (.array .int)) (r := ((a0 + 5) + 1 + i32 x1_40)) 134 (by decide) rfl (by decide) (tgs (st_5 ga0) (by decide)) (oks (st_5 ga0) (by decide) g46) rfl (nes (st_g ga0 g46) (by decide)) dX7_begins_134 ?_
      refine gx_iload_n 135 2 dX7_begins_135 rfl ?_
      refine gx_iconst 136 dX7_begins_136 ?_
      obtain ⟨g47, h⟩ := gd_e h
      obtain ⟨s48, es48, h⟩ := bnd_e h
      refine gx_iast 137 (tgs (st_g ga0 g46) (by decide)) (st0 (st_g ga0 g46) (by decide)) (stm (st_g ga0 g46) (by decide)) (oks (st_g ga0 g46) (by decide) g47) es48 dX7_begins_137 ?_
      obtain ⟨x2_49, ex2_49, h⟩ := bnd_e h
      refine gx_iinc 138 2 [(2, J x2_49), (0, .ref (ad x0 a0)), (1, J x1_40)] dX7_begins_138 rfl ex2_49 (by decide) rfl ?_
      refine gx_goto 141 123 dX7_begins_141 (by decide) ?_
      refine gx_sub [1, 2, 0] rfl ?_
      exact ih _ _ _ h
theorem wx7_begins_L26 {l : Launch} {x0 : Nat} {D : XD} {cN sN : Nat} {res : Int × XS} {a0 : Int} (ga0 : isSt a0) {k150 : XS → Option (Int × XS)} (hk150 : ∀ (s9 : XS), k150 s9 = some res → GX l cX7_begins "VerbAtDusk$State" 3 none "begins" [] x0 D true 0 4 cN sN (0, res) s9 150 [] []) : ∀ (n : Nat) (x1_7 : Int) (s8 : XS), x7_begins_L26 a0 k150 n x1_7 s8 = some res → GX l cX7_begins "VerbAtDusk$State" 3 none "begins" [] x0 D true 0 4 cN sN (0, res) s8 26 [(0, .ref (ad x0 a0)), (1, J x1_7)] [] := by
  intro n
  induction n with
  | zero =>
    intro x1_7 s8 h
    cases h
  | succ n ih =>
    intro x1_7 s8 h
    rw [x7_begins_L26] at h
    refine gx_iload_n 26 1 dX7_begins_26 rfl ?_
    refine gx_aload_n 27 0 dX7_begins_27 rfl ?_
    refine gx_get (t := 8) (k := 9) (v := .ref (ad x0 0)) 28 cw8 (by decide) (tgs (st_0 ga0) (by decide)) q493 same_f (rf_ne (nes (show stc 0 = (1, 0) by decide) (by decide))) dX7_begins_28 ?_
    obtain ⟨z10, ez10, h⟩ := opt_e h
    refine gx_callVN (As := []) (rest := [J x1_7]) (st' := [J z10.1, J x1_7]) 31 0 cw1 (tgs (show stc 0 = (1, 0) by decide) (by decide)) (mx0_sayings ez10 l) q1291 q147 q1288 q1290 qs33 (by decide +kernel) (by decide) rfl rfl (Nat.le_of_ble_eq_true rfl) dX7_begins_31 rfl ?_
    refine gx_icmp_ge 34 150 dX7_begins_34 (by decide) (fun c11 => ?_) (fun c11 => ?_)
    · replace h := if_t h c11
      refine gx_sub [] rfl ?_
      exact hk150 _ h
    · replace h := if_f h c11
      refine gx_aload_n 37 0 dX7_begins_37 rfl ?_
      refine gx_get (t := 8) (k := 3) (v := .ref (ad x0 (a0 + 1))) 38 cw8 (by decide) (tgs (st_0 ga0) (by decide)) q479 same_f (rf_ne (nes (st_1 ga0) (by decide))) dX7_begins_38 ?_
      refine gx_iload_n 41 1 dX7_begins_41 rfl ?_
      refine gx_aload_n 42 0 dX7_begins_42 rfl ?_
      refine gx_get (t := 8) (k := 9) (v := .ref (ad x0 0)) 43 cw8 (by decide) (tgs (st_0 ga0) (by decide)) q493 same_f (rf_ne (nes (show stc 0 = (1, 0) by decide) (by decide))) dX7_begins_43 ?_
      obtain ⟨g12, h⟩ := gd_e h
      refine gx_getN (t := 1) (k := 0) (v := .ref (ad x0 (z10.2 0 0))) 46 cw1 (by decide) (tgs (show stc 0 = (1, 0) by decide) (by decide)) q517 same_f (rf_ne g12) dX7_begins_46 ?_
      obtain ⟨g13, h⟩ := gd_e h
      obtain ⟨g14, h⟩ := gd_e h
      refine gx_getN (t := 2) (k := 4) (v := .ref (ad x0 (z10.2 (z10.2 0 0) 4))) 49 cw2 (by decide) g13 q241 same_f (rf_ne g14) dX7_begins_49 ?_
      refine gx_iload_n 52 1 dX7_begins_52 rfl ?_
      obtain ⟨g16, h⟩ := gd_e h
      obtain ⟨z15, ez15, h⟩ := opt_e h
      refine gx_callF (As := [J x1_7]) (rest := [J x1_7, .ref (ad x0 (a0 + 1))]) (st' := [.ref (ad x0 z15.1), J x1_7, .ref (ad x0 (a0 + 1))]) 53 1 cw21 rfl g16  (mj2_get ez15 l) (lw_app (lw_in4 q1295 q863 q865 q151) (lw_meth q867)) (by decide) (by decide +kernel) (by decide) rfl rfl (Nat.le_of_ble_eq_true rfl) dX7_begins_53 rfl ?_
      obtain ⟨g17, h⟩ := gd_e h
      refine gx_castS 58 cw9 g17 q1296 dX7_begins_58 ?_
      obtain ⟨g18, h⟩ := gd_e h
      refine gx_getN (t := 9) (k := 1) (v := J (z15.2 z15.1 1)) 61 cw9 (by decide) g18 q896 same_f rfl dX7_begins_61 ?_
      obtain ⟨g19, h⟩ := gd_e h
      obtain ⟨s20, es20, h⟩ := bnd_e h
      refine gx_iast 64 (tgs (st_1 ga0) (by decide)) (st0 (st_1 ga0) (by decide)) (stm (st_1 ga0) (by decide)) (oks (st_1 ga0) (by decide) g19) es20 dX7_begins_64 ?_
      refine gx_aload_n 65 0 dX7_begins_65 rfl ?_
      refine gx_get (t := 8) (k := 4) (v := .ref (ad x0 (a0 + 2))) 66 cw8 (by decide) (tgs (st_0 ga0) (by decide)) q482 same_f (rf_ne (nes (st_2 ga0) (by decide))) dX7_begins_66 ?_
      refine gx_iload_n 69 1 dX7_begins_69 rfl ?_
      refine gx_aload_n 70 0 dX7_begins_70 rfl ?_
      refine gx_get (t := 8) (k := 9) (v := .ref (ad x0 0)) 71 cw8 (by decide) (tgs (st_0 ga0) (by decide)) q493 same_f (rf_ne (nes (show stc 0 = (1, 0) by decide) (by decide))) dX7_begins_71 ?_
      obtain ⟨g21, h⟩ := gd_e h
      refine gx_getN (t := 1) (k := 0) (v := .ref (ad x0 (s20 0 0))) 74 cw1 (by decide) (tgs (show stc 0 = (1, 0) by decide) (by decide)) q517 same_f (rf_ne g21) dX7_begins_74 ?_
      obtain ⟨g22, h⟩ := gd_e h
      obtain ⟨g23, h⟩ := gd_e h
      refine gx_getN (t := 2) (k := 4) (v := .ref (ad x0 (s20 (s20 0 0) 4))) 77 cw2 (by decide) g22 q241 same_f (rf_ne g23) dX7_begins_77 ?_
      refine gx_iload_n 80 1 dX7_begins_80 rfl ?_
      obtain ⟨g25, h⟩ := gd_e h
      obtain ⟨z24, ez24, h⟩ := opt_e h
      refine gx_callF (As := [J x1_7]) (rest := [J x1_7, .ref (ad x0 (a0 + 2))]) (st' := [.ref (ad x0 z24.1), J x1_7, .ref (ad x0 (a0 + 2))]) 81 1 cw21 rfl g25  (mj2_get ez24 l) (lw_app (lw_in4 q1295 q863 q865 q151) (lw_meth q867)) (by decide) (by decide +kernel) (by decide) rfl rfl (Nat.le_of_ble_eq_true rfl) dX7_begins_81 rfl ?_
      obtain ⟨g26, h⟩ := gd_e h
      refine gx_castS 86 cw9 g26 q1296 dX7_begins_86 ?_
      obtain ⟨g27, h⟩ := gd_e h
      refine gx_getN (t := 9) (k := 2) (v := J (z24.2 z24.1 2)) 89 cw9 (by decide) g27 q898 same_f rfl dX7_begins_89 ?_
      obtain ⟨g28, h⟩ := gd_e h
      obtain ⟨s29, es29, h⟩ := bnd_e h
      refine gx_iast 92 (tgs (st_2 ga0) (by decide)) (st0 (st_2 ga0) (by decide)) (stm (st_2 ga0) (by decide)) (oks (st_2 ga0) (by decide) g28) es29 dX7_begins_92 ?_
      refine gx_aload_n 93 0 dX7_begins_93 rfl ?_
      refine gx_get (t := 8) (k := 5) (v := .ref (ad x0 (a0 + 3))) 94 cw8 (by decide) (tgs (st_0 ga0) (by decide)) q485 same_f (rf_ne (nes (st_3 ga0) (by decide))) dX7_begins_94 ?_
      refine gx_iload_n 97 1 dX7_begins_97 rfl ?_
      refine gx_aload_n 98 0 dX7_begins_98 rfl ?_
      refine gx_get (t := 8) (k := 9) (v := .ref (ad x0 0)) 99 cw8 (by decide) (tgs (st_0 ga0) (by decide)) q493 same_f (rf_ne (nes (show stc 0 = (1, 0) by decide) (by decide))) dX7_begins_99 ?_
      obtain ⟨g30, h⟩ := gd_e h
      refine gx_getN (t := 1) (k := 0) (v := .ref (ad x0 (s29 0 0))) 102 cw1 (by decide) (tgs (show stc 0 = (1, 0) by decide) (by decide)) q517 same_f (rf_ne g30) dX7_begins_102 ?_
      obtain ⟨g31, h⟩ := gd_e h
      obtain ⟨g32, h⟩ := gd_e h
      refine gx_getN (t := 2) (k := 4) (v := .ref (ad x0 (s29 (s29 0 0) 4))) 105 cw2 (by decide) g31 q241 same_f (rf_ne g32) dX7_begins_105 ?_
      refine gx_iload_n 108 1 dX7_begins_108 rfl ?_
      obtain ⟨g34, h⟩ := gd_e h
      obtain ⟨z33, ez33, h⟩ := opt_e h
      refine gx_callF (As := [J x1_7]) (rest := [J x1_7, .ref (ad x0 (a0 + 3))]) (st' := [.ref (ad x0 z33.1), J x1_7, .ref (ad x0 (a0 + 3))]) 109 1 cw21 rfl g34  (mj2_get ez33 l) (lw_app (lw_in4 q1295 q863 q865 q151) (lw_meth q867)) (by decide) (by decide +kernel) (by decide) rfl rfl (Nat.le_of_ble_eq_true rfl) dX7_begins_109 rfl ?_
      obtain ⟨g35, h⟩ := gd_e h
      refine gx_castS 114 cw9 g35 q1296 dX7_begins_114 ?_
      obtain ⟨g36, h⟩ := gd_e h
      refine gx_getN (t := 9) (k := 3) (v := J (z33.2 z33.1 3)) 117 cw9 (by decide) g36 q900 same_f rfl dX7_begins_117 ?_
      obtain ⟨g37, h⟩ := gd_e h
      obtain ⟨s38, es38, h⟩ := bnd_e h
      refine gx_iast 120 (tgs (st_3 ga0) (by decide)) (st0 (st_3 ga0) (by decide)) (stm (st_3 ga0) (by decide)) (oks (st_3 ga0) (by decide) g37) es38 dX7_begins_120 ?_
      refine gx_iconst 121 dX7_begins_121 ?_
      obtain ⟨x2_39, ex2_39, h⟩ := bnd_e h
      refine gx_istore_n 122 [(2, J x2_39), (0, .ref (ad x0 a0)), (1, J x1_7)] dX7_begins_122 (by decide) ex2_39 rfl ?_
      refine gx_sub [1, 2, 0] rfl ?_
      refine wx7_begins_L123 ga0 (fun x1_50 s51 h => ?_) FU _ _ _ h
      · obtain ⟨x1_52, ex1_52, h⟩ := bnd_e h
        refine gx_iinc 144 1 [(1, J x1_52), (0, .ref (ad x0 a0))] dX7_begins_144 rfl ex1_52 (by decide) rfl ?_
        refine gx_goto 147 26 dX7_begins_147 (by decide) ?_
        refine gx_sub [1, 0] rfl ?_
        exact ih _ _ h
theorem mx7_begins {x0 : Nat} {D : XD} {a0 : Int} {s0 : XS} {res : Int × XS} (h : x7_begins a0 s0 = some res) (l : Launch) : XMet0 l yX7_begins cX7_begins 3 none 4 true x0 D [.ref (ad x0 a0)] s0 0 res := by
  refine XMet0.ofn [(0, .ref (ad x0 a0))] "VerbAtDusk$State" "begins" rfl rfl (plainFor_of_name (by decide)) (Nat.le_of_ble_eq_true rfl) rfl ?_
  unfold x7_begins at h
  generalize nC s0 = cN
  generalize nS s0 = sN
  obtain ⟨ga0, h⟩ := gd_e h
  refine gx_aload_n 0 0 dX7_begins_0 rfl ?_
  refine gx_iconst 1 dX7_begins_1 ?_
  obtain ⟨s1, es1, h⟩ := bnd_e h
  refine gx_put (t := 8) (k := 0) (x := 0) (ty := .int) 2 cw8 (by decide) (tgs (st_0 ga0) (by decide)) (st0 (st_0 ga0) (by decide)) (stm (st_0 ga0) (by decide)) q473 same_f rfl (by decide +kernel) rfl rfl (congrArg J (ux_s _ _ _ _)) es1 dX7_begins_2 ?_
  refine gx_aload_n 5 0 dX7_begins_5 rfl ?_
  refine gx_iconst 6 dX7_begins_6 ?_
  obtain ⟨s2, es2, h⟩ := bnd_e h
  refine gx_put (t := 8) (k := 2) (x := 0) (ty := .int) 7 cw8 (by decide) (tgs (st_0 ga0) (by decide)) (st0 (st_0 ga0) (by decide)) (stm (st_0 ga0) (by decide)) q477 same_f rfl (by decide +kernel) rfl rfl (congrArg J (ux_s _ _ _ _)) es2 dX7_begins_7 ?_
  refine gx_aload_n 10 0 dX7_begins_10 rfl ?_
  refine gx_aload_n 11 0 dX7_begins_11 rfl ?_
  refine gx_get (t := 8) (k := 9) (v := .ref (ad x0 0)) 12 cw8 (by decide) (tgs (st_0 ga0) (by decide)) q493 same_f (rf_ne (nes (show stc 0 = (1, 0) by decide) (by decide))) dX7_begins_12 ?_
  obtain ⟨g3, h⟩ := gd_e h
  refine gx_getN (t := 1) (k := 0) (v := .ref (ad x0 (s2 0 0))) 15 cw1 (by decide) (tgs (show stc 0 = (1, 0) by decide) (by decide)) q517 same_f (rf_ne g3) dX7_begins_15 ?_
  obtain ⟨g4, h⟩ := gd_e h
  refine gx_getN (t := 2) (k := 2) (v := J (s2 (s2 0 0) 2)) 18 cw2 (by decide) g4 q236 same_f rfl dX7_begins_18 ?_
  obtain ⟨s5, es5, h⟩ := bnd_e h
  refine gx_put (t := 8) (k := 1) (x := (s2 (s2 0 0) 2)) (ty := .int) 21 cw8 (by decide) (tgs (st_0 ga0) (by decide)) (st0 (st_0 ga0) (by decide)) (stm (st_0 ga0) (by decide)) q475 same_f rfl (by decide +kernel) rfl rfl (congrArg J (ux_s _ _ _ _)) es5 dX7_begins_21 ?_
  refine gx_iconst 24 dX7_begins_24 ?_
  obtain ⟨x1_6, ex1_6, h⟩ := bnd_e h
  refine gx_istore_n 25 [(1, J x1_6), (0, .ref (ad x0 a0))] dX7_begins_25 (by decide) ex1_6 rfl ?_
  refine gx_sub [1, 0] rfl ?_
  refine wx7_begins_L26 ga0 (fun s53 h => ?_) FU _ _ h
  · exact gx_vret 150 dX7_begins_150 (rt h)
/-! VerbAtDusk$State.copy -/
noncomputable def x7_copy_L70 (a0 : Int) (a1 : Int) (k98 : Int → XS → Option (Int × XS)) : Nat → Int → Int → XS → Option (Int × XS)
  | 0, _, _, _ => none
  | n + 1, x2_20, x3_21, s22 =>
    if i32 7 ≤ i32 x3_21 then
      k98 x2_20 s22
    else
      gd (ok 6 x2_20) <|
      gd (ok 6 x2_20) <|
      gd (ok 7 x3_21) <|
      gd (ok 7 x3_21) <|
      bnd (ux s22 ((a0 + 5) + 1 + i32 x2_20) (i32 x3_21) (s22 ((a1 + 5) + 1 + i32 x2_20) (i32 x3_21))) fun s30 =>
      bnd (x3_21 + 1) fun x3_31 =>
      x7_copy_L70 a0 a1 k98 n x2_20 x3_31 s30
noncomputable def x7_copy_L26 (a0 : Int) (a1 : Int) (k104 : XS → Option (Int × XS)) : Nat → Int → XS → Option (Int × XS)
  | 0, _, _ => none
  | n + 1, x2_6, s7 =>
    if i32 6 ≤ i32 x2_6 then
      k104 s7
    else
      gd (ok 6 x2_6) <|
      gd (ok 6 x2_6) <|
      bnd (ux s7 (a0 + 1) (i32 x2_6) (s7 (a1 + 1) (i32 x2_6))) fun s12 =>
      gd (ok 6 x2_6) <|
      gd (ok 6 x2_6) <|
      bnd (ux s12 (a0 + 2) (i32 x2_6) (s12 (a1 + 2) (i32 x2_6))) fun s15 =>
      gd (ok 6 x2_6) <|
      gd (ok 6 x2_6) <|
      bnd (ux s15 (a0 + 3) (i32 x2_6) (s15 (a1 + 3) (i32 x2_6))) fun s18 =>
      bnd 0 fun x3_19 =>
      x7_copy_L70 a0 a1
        (fun (x2_32 : Int) (s33 : XS) =>
          bnd (x2_32 + 1) fun x2_34 =>
          x7_copy_L26 a0 a1 k104 n x2_34 s33)
        FU x2_6 x3_19 s18
noncomputable def x7_copy_L116 (a0 : Int) (a1 : Int) (k143 : Int → XS → Option (Int × XS)) : Nat → Int → Int → XS → Option (Int × XS)
  | 0, _, _, _ => none
  | n + 1, x2_42, x3_43, s44 =>
    if i32 3 ≤ i32 x3_43 then
      k143 x2_42 s44
    else
      gd (ok 50 x2_42) <|
      gd (¬ (s44 (a0 + 12) (i32 x2_42)) = -1) <|
      gd (ok 50 x2_42) <|
      gd (¬ (s44 (a1 + 12) (i32 x2_42)) = -1) <|
      gd (tg true s44 (s44 (a1 + 12) (i32 x2_42)) = 101) <|
      gd (ok (ln true s44 (s44 (a1 + 12) (i32 x2_42))) x3_43) <|
      gd (tg true s44 (s44 (a0 + 12) (i32 x2_42)) = 101) <|
      gd (0 ≤ (s44 (a0 + 12) (i32 x2_42)) ∧ ¬ (1438 ≤ (s44 (a0 + 12) (i32 x2_42)) ∧ (s44 (a0 + 12) (i32 x2_42)) < 1514)) <|
      gd (ok (ln true s44 (s44 (a0 + 12) (i32 x2_42))) x3_43) <|
      bnd (ux s44 (s44 (a0 + 12) (i32 x2_42)) (i32 x3_43) (s44 (s44 (a1 + 12) (i32 x2_42)) (i32 x3_43))) fun s57 =>
      bnd (x3_43 + 1) fun x3_58 =>
      x7_copy_L116 a0 a1 k143 n x2_42 x3_58 s57
noncomputable def x7_copy_L106 (a0 : Int) (a1 : Int) (k149 : XS → Option (Int × XS)) : Nat → Int → XS → Option (Int × XS)
  | 0, _, _ => none
  | n + 1, x2_37, s38 =>
    if i32 (s38 a0 2) ≤ i32 x2_37 then
      k149 s38
    else
      bnd 0 fun x3_41 =>
      x7_copy_L116 a0 a1
        (fun (x2_59 : Int) (s60 : XS) =>
          bnd (x2_59 + 1) fun x2_61 =>
          x7_copy_L106 a0 a1 k149 n x2_61 s60)
        FU x2_37 x3_41 s38
noncomputable def x7_copy (a0 : Int) (a1 : Int) (s0 : XS) : Option (Int × XS) :=
  gd (isSt a0) <|
  gd (isSt a1) <|
  bnd (ux s0 a0 0 (s0 a1 0)) fun s2 =>
  bnd (ux s2 a0 2 (s2 a1 2)) fun s3 =>
  bnd (ux s3 a0 1 (s3 a1 1)) fun s4 =>
  bnd 0 fun x2_5 =>
  x7_copy_L26 a0 a1
    (fun (s35 : XS) =>
      bnd 0 fun x2_36 =>
      x7_copy_L106 a0 a1
        (fun (s62 : XS) =>
          some (a0, s62))
        FU x2_36 s35)
    FU x2_5 s4
theorem wx7_copy_L70 {l : Launch} {x0 : Nat} {D : XD} {cN sN : Nat} {res : Int × XS} {a0 : Int} {a1 : Int} (ga0 : isSt a0) (ga1 : isSt a1) {k98 : Int → XS → Option (Int × XS)} (hk98 : ∀ (x2_23 : Int) (s24 : XS), k98 x2_23 s24 = some res → GX l cX7_copy "VerbAtDusk$State" 4 (some (.object "VerbAtDusk$State")) "copy" [] x0 D true 3 1 cN sN (0, res) s24 98 [(0, .ref (ad x0 a0)), (1, .ref (ad x0 a1)), (2, J x2_23)] []) : ∀ (n : Nat) (x2_20 : Int) (x3_21 : Int) (s22 : XS), x7_copy_L70 a0 a1 k98 n x2_20 x3_21 s22 = some res → GX l cX7_copy "VerbAtDusk$State" 4 (some (.object "VerbAtDusk$State")) "copy" [] x0 D true 3 1 cN sN (0, res) s22 70 [(0, .ref (ad x0 a0)), (1, .ref (ad x0 a1)), (2, J x2_20), (3, J x3_21)] [] := by
  intro n
  induction n with
  | zero =>
    intro x2_20 x3_21 s22 h
    cases h
  | succ n ih =>
    intro x2_20 x3_21 s22 h
    rw [x7_copy_L70] at h
    refine gx_iload_n 70 3 dX7_copy_70 rfl ?_
    refine gx_bipush 71 dX7_copy_71 (by decide) ?_
    refine gx_icmp_ge 73 98 dX7_copy_73 (by decide) (fun c25 => ?_) (fun c25 => ?_)
    · replace h := if_t h c25
      refine gx_sub [0, 1, 2] rfl ?_
      exact hk98 _ _ h
    · replace h := if_f h c25
      refine gx_aload_n 76 0 dX7_copy_76 rfl ?_
      refine gx_get (t := 8) (k := 7) (v := .ref (ad x0 (a0 + 5))) 77 cw8 (by decide) (tgs (st_0 ga0) (by decide)) q489 same_f (rf_ne (nes (st_5 ga0) (by decide))) dX7_copy_77 ?_
      refine gx_iload_n 80 2 dX7_copy_80 rfl ?_
      obtain ⟨g26, h⟩ := gd_e h
      refine gx_aald (t := 121) (ty := (.array .int)) (r := ((a0 + 5) + 1 + i32 x2_20)) 81 (by decide) rfl (by decide) (tgs (st_5 ga0) (by decide)) (oks (st_5 ga0) (by decide) g26) rfl (nes (st_g ga0 g26) (by decide)) dX7_copy_81 ?_
      refine gx_iload_n 82 3 dX7_copy_82 rfl ?_
      refine gx_aload_n 83 1 dX7_copy_83 rfl ?_
      refine gx_get (t := 8) (k := 7) (v := .ref (ad x0 (a1 + 5))) 84 cw8 (by decide) (tgs (st_0 ga1) (by decide)) q489 same_f (rf_ne (nes (st_5 ga1) (by decide))) dX7_copy_84 ?_
      refine gx_iload_n 87 2 dX7_copy_87 rfl ?_
      obtain ⟨g27, h⟩ := gd_e h
      refine gx_aald (t := 121) (ty := (.array .int)) (r := ((a1 + 5) + 1 + i32 x2_20)) 88 (by decide) rfl (by decide) (tgs (st_5 ga1) (by decide)) (oks (st_5 ga1) (by decide) g27) rfl (nes (st_g ga1 g27) (by decide)) dX7_copy_88 ?_
      refine gx_iload_n 89 3 dX7_copy_89 rfl ?_
      obtain ⟨g28, h⟩ := gd_e h
      refine gx_iald 90 (tgs (st_g ga1 g27) (by decide)) (oks (st_g ga1 g27) (by decide) g28) dX7_copy_90 ?_
      obtain ⟨g29, h⟩ := gd_e h
      obtain ⟨s30, es30, h⟩ := bnd_e h
      refine gx_iast 91 (tgs (st_g ga0 g26) (by decide)) (st0 (st_g ga0 g26) (by decide)) (stm (st_g ga0 g26) (by decide)) (oks (st_g ga0 g26) (by decide) g29) es30 dX7_copy_91 ?_
      obtain ⟨x3_31, ex3_31, h⟩ := bnd_e h
      refine gx_iinc 92 3 [(3, J x3_31), (0, .ref (ad x0 a0)), (1, .ref (ad x0 a1)), (2, J x2_20)] dX7_copy_92 rfl ex3_31 (by decide) rfl ?_
      refine gx_goto 95 70 dX7_copy_95 (by decide) ?_
      refine gx_sub [1, 2, 3, 0] rfl ?_
      exact ih _ _ _ h
theorem wx7_copy_L26 {l : Launch} {x0 : Nat} {D : XD} {cN sN : Nat} {res : Int × XS} {a0 : Int} {a1 : Int} (ga0 : isSt a0) (ga1 : isSt a1) {k104 : XS → Option (Int × XS)} (hk104 : ∀ (s8 : XS), k104 s8 = some res → GX l cX7_copy "VerbAtDusk$State" 4 (some (.object "VerbAtDusk$State")) "copy" [] x0 D true 3 1 cN sN (0, res) s8 104 [(0, .ref (ad x0 a0)), (1, .ref (ad x0 a1))] []) : ∀ (n : Nat) (x2_6 : Int) (s7 : XS), x7_copy_L26 a0 a1 k104 n x2_6 s7 = some res → GX l cX7_copy "VerbAtDusk$State" 4 (some (.object "VerbAtDusk$State")) "copy" [] x0 D true 3 1 cN sN (0, res) s7 26 [(0, .ref (ad x0 a0)), (1, .ref (ad x0 a1)), (2, J x2_6)] [] := by
  intro n
  induction n with
  | zero =>
    intro x2_6 s7 h
    cases h
  | succ n ih =>
    intro x2_6 s7 h
    rw [x7_copy_L26] at h
    refine gx_iload_n 26 2 dX7_copy_26 rfl ?_
    refine gx_bipush 27 dX7_copy_27 (by decide) ?_
    refine gx_icmp_ge 29 104 dX7_copy_29 (by decide) (fun c9 => ?_) (fun c9 => ?_)
    · replace h := if_t h c9
      refine gx_sub [0, 1] rfl ?_
      exact hk104 _ h
    · replace h := if_f h c9
      refine gx_aload_n 32 0 dX7_copy_32 rfl ?_
      refine gx_get (t := 8) (k := 3) (v := .ref (ad x0 (a0 + 1))) 33 cw8 (by decide) (tgs (st_0 ga0) (by decide)) q479 same_f (rf_ne (nes (st_1 ga0) (by decide))) dX7_copy_33 ?_
      refine gx_iload_n 36 2 dX7_copy_36 rfl ?_
      refine gx_aload_n 37 1 dX7_copy_37 rfl ?_
      refine gx_get (t := 8) (k := 3) (v := .ref (ad x0 (a1 + 1))) 38 cw8 (by decide) (tgs (st_0 ga1) (by decide)) q479 same_f (rf_ne (nes (st_1 ga1) (by decide))) dX7_copy_38 ?_
      refine gx_iload_n 41 2 dX7_copy_41 rfl ?_
      obtain ⟨g10, h⟩ := gd_e h
      refine gx_iald 42 (tgs (st_1 ga1) (by decide)) (oks (st_1 ga1) (by decide) g10) dX7_copy_42 ?_
      obtain ⟨g11, h⟩ := gd_e h
      obtain ⟨s12, es12, h⟩ := bnd_e h
      refine gx_iast 43 (tgs (st_1 ga0) (by decide)) (st0 (st_1 ga0) (by decide)) (stm (st_1 ga0) (by decide)) (oks (st_1 ga0) (by decide) g11) es12 dX7_copy_43 ?_
      refine gx_aload_n 44 0 dX7_copy_44 rfl ?_
      refine gx_get (t := 8) (k := 4) (v := .ref (ad x0 (a0 + 2))) 45 cw8 (by decide) (tgs (st_0 ga0) (by decide)) q482 same_f (rf_ne (nes (st_2 ga0) (by decide))) dX7_copy_45 ?_
      refine gx_iload_n 48 2 dX7_copy_48 rfl ?_
      refine gx_aload_n 49 1 dX7_copy_49 rfl ?_
      refine gx_get (t := 8) (k := 4) (v := .ref (ad x0 (a1 + 2))) 50 cw8 (by decide) (tgs (st_0 ga1) (by decide)) q482 same_f (rf_ne (nes (st_2 ga1) (by decide))) dX7_copy_50 ?_
      refine gx_iload_n 53 2 dX7_copy_53 rfl ?_
      obtain ⟨g13, h⟩ := gd_e h
      refine gx_iald 54 (tgs (st_2 ga1) (by decide)) (oks (st_2 ga1) (by decide) g13) dX7_copy_54 ?_
      obtain ⟨g14, h⟩ := gd_e h
      obtain ⟨s15, es15, h⟩ := bnd_e h
      refine gx_iast 55 (tgs (st_2 ga0) (by decide)) (st0 (st_2 ga0) (by decide)) (stm (st_2 ga0) (by decide)) (oks (st_2 ga0) (by decide) g14) es15 dX7_copy_55 ?_
      refine gx_aload_n 56 0 dX7_copy_56 rfl ?_
      refine gx_get (t := 8) (k := 5) (v := .ref (ad x0 (a0 + 3))) 57 cw8 (by decide) (tgs (st_0 ga0) (by decide)) q485 same_f (rf_ne (nes (st_3 ga0) (by decide))) dX7_copy_57 ?_
      refine gx_iload_n 60 2 dX7_copy_60 rfl ?_
      refine gx_aload_n 61 1 dX7_copy_61 rfl ?_
      refine gx_get (t := 8) (k := 5) (v := .ref (ad x0 (a1 + 3))) 62 cw8 (by decide) (tgs (st_0 ga1) (by decide)) q485 same_f (rf_ne (nes (st_3 ga1) (by decide))) dX7_copy_62 ?_
      refine gx_iload_n 65 2 dX7_copy_65 rfl ?_
      obtain ⟨g16, h⟩ := gd_e h
      refine gx_iald 66 (tgs (st_3 ga1) (by decide)) (oks (st_3 ga1) (by decide) g16) dX7_copy_66 ?_
      obtain ⟨g17, h⟩ := gd_e h
      obtain ⟨s18, es18, h⟩ := bnd_e h
      refine gx_iast 67 (tgs (st_3 ga0) (by decide)) (st0 (st_3 ga0) (by decide)) (stm (st_3 ga0) (by decide)) (oks (st_3 ga0) (by decide) g17) es18 dX7_copy_67 ?_
      refine gx_iconst 68 dX7_copy_68 ?_
      obtain ⟨x3_19, ex3_19, h⟩ := bnd_e h
      refine gx_istore_n 69 [(3, J x3_19), (0, .ref (ad x0 a0)), (1, .ref (ad x0 a1)), (2, J x2_6)] dX7_copy_69 (by decide) ex3_19 rfl ?_
      refine gx_sub [1, 2, 3, 0] rfl ?_
      refine wx7_copy_L70 ga0 ga1 (fun x2_32 s33 h => ?_) FU _ _ _ h
      · obtain ⟨x2_34, ex2_34, h⟩ := bnd_e h
        refine gx_iinc 98 2 [(2, J x2_34), (0, .ref (ad x0 a0)), (1, .ref (ad x0 a1))] dX7_copy_98 rfl ex2_34 (by decide) rfl ?_
        refine gx_goto 101 26 dX7_copy_101 (by decide) ?_
        refine gx_sub [1, 2, 0] rfl ?_
        exact ih _ _ h
theorem wx7_copy_L116 {l : Launch} {x0 : Nat} {D : XD} {cN sN : Nat} {res : Int × XS} {a0 : Int} {a1 : Int} (ga0 : isSt a0) (ga1 : isSt a1) {k143 : Int → XS → Option (Int × XS)} (hk143 : ∀ (x2_45 : Int) (s46 : XS), k143 x2_45 s46 = some res → GX l cX7_copy "VerbAtDusk$State" 4 (some (.object "VerbAtDusk$State")) "copy" [] x0 D true 3 1 cN sN (0, res) s46 143 [(0, .ref (ad x0 a0)), (1, .ref (ad x0 a1)), (2, J x2_45)] []) : ∀ (n : Nat) (x2_42 : Int) (x3_43 : Int) (s44 : XS), x7_copy_L116 a0 a1 k143 n x2_42 x3_43 s44 = some res → GX l cX7_copy "VerbAtDusk$State" 4 (some (.object "VerbAtDusk$State")) "copy" [] x0 D true 3 1 cN sN (0, res) s44 116 [(0, .ref (ad x0 a0)), (1, .ref (ad x0 a1)), (2, J x2_42), (3, J x3_43)] [] := by
  intro n
  induction n with
  | zero =>
    intro x2_42 x3_43 s44 h
    cases h
  | succ n ih =>
    intro x2_42 x3_43 s44 h
    rw [x7_copy_L116] at h
    refine gx_iload_n 116 3 dX7_copy_116 rfl ?_
    refine gx_iconst 117 dX7_copy_117 ?_
    refine gx_icmp_ge 118 143 dX7_copy_118 (by decide) (fun c47 => ?_) (fun c47 => ?_)
    · replace h := if_t h c47
      refine gx_sub [0, 1, 2] rfl ?_
      exact hk143 _ _ h
    · replace h := if_f h c47
      refine gx_aload_n 121 0 dX7_copy_121 rfl ?_
      refine gx_get (t := 8) (k := 8) (v := .ref (ad x0 (a0 + 12))) 122 cw8 (by decide) (tgs (st_0 ga0) (by decide)) q491 same_f (rf_ne (nes (st_12 ga0) (by decide))) dX7_copy_122 ?_
      refine gx_iload_n 125 2 dX7_copy_125 rfl ?_
      obtain ⟨g48, h⟩ := gd_e h
      obtain ⟨g49, h⟩ := gd_e h
      refine gx_aald (t := 111) (ty := (.array .int)) (r := (s44 (a0 + 12) (i32 x2_42))) 126 (by decide) rfl (by decide) (tgs (st_12 ga0) (by decide)) (oks (st_12 ga0) (by decide) g48) rfl g49 dX7_copy_126 ?_
      refine gx_iload_n 127 3 dX7_copy_127 rfl ?_
      refine gx_aload_n 128 1 dX7_copy_128 rfl ?_
      refine gx_get (t := 8) (k := 8) (v := .ref (ad x0 (a1 + 12))) 129 cw8 (by decide) (tgs (st_0 ga1) (by decide)) q491 same_f (rf_ne (nes (st_12 ga1) (by decide))) dX7_copy_129 ?_
      refine gx_iload_n 132 2 dX7_copy_132 rfl ?_
      obtain ⟨g50, h⟩ := gd_e h
      obtain ⟨g51, h⟩ := gd_e h
      refine gx_aald (t := 111) (ty := (.array .int)) (r := (s44 (a1 + 12) (i32 x2_42))) 133 (by decide) rfl (by decide) (tgs (st_12 ga1) (by decide)) (oks (st_12 ga1) (by decide) g50) rfl g51 dX7_copy_133 ?_
      refine gx_iload_n 134 3 dX7_copy_134 rfl ?_
      obtain ⟨g52, h⟩ := gd_e h
      obtain ⟨g53, h⟩ := gd_e h
      refine gx_iald 135 g52 g53 dX7_copy_135 ?_
      obtain ⟨g54, h⟩ := gd_e h
      obtain ⟨g55, h⟩ := gd_e h
      obtain ⟨g56, h⟩ := gd_e h
      obtain ⟨s57, es57, h⟩ := bnd_e h
      refine gx_iast 136 g54 g55.1 g55.2 g56 es57 dX7_copy_136 ?_
      obtain ⟨x3_58, ex3_58, h⟩ := bnd_e h
      refine gx_iinc 137 3 [(3, J x3_58), (0, .ref (ad x0 a0)), (1, .ref (ad x0 a1)), (2, J x2_42)] dX7_copy_137 rfl ex3_58 (by decide) rfl ?_
      refine gx_goto 140 116 dX7_copy_140 (by decide) ?_
      refine gx_sub [1, 2, 3, 0] rfl ?_
      exact ih _ _ _ h
theorem wx7_copy_L106 {l : Launch} {x0 : Nat} {D : XD} {cN sN : Nat} {res : Int × XS} {a0 : Int} {a1 : Int} (ga0 : isSt a0) (ga1 : isSt a1) {k149 : XS → Option (Int × XS)} (hk149 : ∀ (s39 : XS), k149 s39 = some res → GX l cX7_copy "VerbAtDusk$State" 4 (some (.object "VerbAtDusk$State")) "copy" [] x0 D true 3 1 cN sN (0, res) s39 149 [(0, .ref (ad x0 a0))] []) : ∀ (n : Nat) (x2_37 : Int) (s38 : XS), x7_copy_L106 a0 a1 k149 n x2_37 s38 = some res → GX l cX7_copy "VerbAtDusk$State" 4 (some (.object "VerbAtDusk$State")) "copy" [] x0 D true 3 1 cN sN (0, res) s38 106 [(0, .ref (ad x0 a0)), (1, .ref (ad x0 a1)), (2, J x2_37)] [] := by
  intro n
  induction n with
  | zero =>
    intro x2_37 s38 h
    cases h
  | succ n ih =>
    intro x2_37 s38 h
    rw [x7_copy_L106] at h
    refine gx_iload_n 106 2 dX7_copy_106 rfl ?_
    refine gx_aload_n 107 0 dX7_copy_107 rfl ?_
    refine gx_get (t := 8) (k := 2) (v := J (s38 a0 2)) 108 cw8 (by decide) (tgs (st_0 ga0) (by decide)) q477 same_f rfl dX7_copy_108 ?_
    refine gx_icmp_ge 111 149 dX7_copy_111 (by decide) (fun c40 => ?_) (fun c40 => ?_)
    · replace h := if_t h c40
      refine gx_sub [0] rfl ?_
      exact hk149 _ h
    · replace h := if_f h c40
      refine gx_iconst 114 dX7_copy_114 ?_
      obtain ⟨x3_41, ex3_41, h⟩ := bnd_e h
      refine gx_istore_n 115 [(3, J x3_41), (0, .ref (ad x0 a0)), (1, .ref (ad x0 a1)), (2, J x2_37)] dX7_copy_115 (by decide) ex3_41 rfl ?_
      refine gx_sub [1, 2, 3, 0] rfl ?_
      refine wx7_copy_L116 ga0 ga1 (fun x2_59 s60 h => ?_) FU _ _ _ h
      · obtain ⟨x2_61, ex2_61, h⟩ := bnd_e h
        refine gx_iinc 143 2 [(2, J x2_61), (0, .ref (ad x0 a0)), (1, .ref (ad x0 a1))] dX7_copy_143 rfl ex2_61 (by decide) rfl ?_
        refine gx_goto 146 106 dX7_copy_146 (by decide) ?_
        refine gx_sub [1, 2, 0] rfl ?_
        exact ih _ _ h
theorem mx7_copy {x0 : Nat} {D : XD} {a0 : Int} {a1 : Int} {s0 : XS} {res : Int × XS} (h : x7_copy a0 a1 s0 = some res) (l : Launch) : XMet0 l yX7_copy cX7_copy 4 (some (.object "VerbAtDusk$State")) 1 true x0 D [.ref (ad x0 a0), .ref (ad x0 a1)] s0 3 res := by
  refine XMet0.ofn [(0, .ref (ad x0 a0)), (1, .ref (ad x0 a1))] "VerbAtDusk$State" "copy" rfl rfl (plainFor_of_name (by decide)) (Nat.le_of_ble_eq_true rfl) rfl ?_
  unfold x7_copy at h
  generalize nC s0 = cN
  generalize nS s0 = sN
  obtain ⟨ga0, h⟩ := gd_e h
  obtain ⟨ga1, h⟩ := gd_e h
  refine gx_aload_n 0 0 dX7_copy_0 rfl ?_
  refine gx_aload_n 1 1 dX7_copy_1 rfl ?_
  refine gx_get (t := 8) (k := 0) (v := J (s0 a1 0)) 2 cw8 (by decide) (tgs (st_0 ga1) (by decide)) q473 same_f rfl dX7_copy_2 ?_
  obtain ⟨s2, es2, h⟩ := bnd_e h
  refine gx_put (t := 8) (k := 0) (x := (s0 a1 0)) (ty := .int) 5 cw8 (by decide) (tgs (st_0 ga0) (by decide)) (st0 (st_0 ga0) (by decide)) (stm (st_0 ga0) (by decide)) q473 same_f rfl (by decide +kernel) rfl rfl (congrArg J (ux_s _ _ _ _)) es2 dX7_copy_5 ?_
  refine gx_aload_n 8 0 dX7_copy_8 rfl ?_
  refine gx_aload_n 9 1 dX7_copy_9 rfl ?_
  refine gx_get (t := 8) (k := 2) (v := J (s2 a1 2)) 10 cw8 (by decide) (tgs (st_0 ga1) (by decide)) q477 same_f rfl dX7_copy_10 ?_
  obtain ⟨s3, es3, h⟩ := bnd_e h
  refine gx_put (t := 8) (k := 2) (x := (s2 a1 2)) (ty := .int) 13 cw8 (by decide) (tgs (st_0 ga0) (by decide)) (st0 (st_0 ga0) (by decide)) (stm (st_0 ga0) (by decide)) q477 same_f rfl (by decide +kernel) rfl rfl (congrArg J (ux_s _ _ _ _)) es3 dX7_copy_13 ?_
  refine gx_aload_n 16 0 dX7_copy_16 rfl ?_
  refine gx_aload_n 17 1 dX7_copy_17 rfl ?_
  refine gx_get (t := 8) (k := 1) (v := J (s3 a1 1)) 18 cw8 (by decide) (tgs (st_0 ga1) (by decide)) q475 same_f rfl dX7_copy_18 ?_
  obtain ⟨s4, es4, h⟩ := bnd_e h
  refine gx_put (t := 8) (k := 1) (x := (s3 a1 1)) (ty := .int) 21 cw8 (by decide) (tgs (st_0 ga0) (by decide)) (st0 (st_0 ga0) (by decide)) (stm (st_0 ga0) (by decide)) q475 same_f rfl (by decide +kernel) rfl rfl (congrArg J (ux_s _ _ _ _)) es4 dX7_copy_21 ?_
  refine gx_iconst 24 dX7_copy_24 ?_
  obtain ⟨x2_5, ex2_5, h⟩ := bnd_e h
  refine gx_istore_n 25 [(2, J x2_5), (0, .ref (ad x0 a0)), (1, .ref (ad x0 a1))] dX7_copy_25 (by decide) ex2_5 rfl ?_
  refine gx_sub [1, 2, 0] rfl ?_
  refine wx7_copy_L26 ga0 ga1 (fun s35 h => ?_) FU _ _ h
  · refine gx_iconst 104 dX7_copy_104 ?_
    obtain ⟨x2_36, ex2_36, h⟩ := bnd_e h
    refine gx_istore_n 105 [(2, J x2_36), (0, .ref (ad x0 a0)), (1, .ref (ad x0 a1))] dX7_copy_105 (by decide) ex2_36 rfl ?_
    refine gx_sub [1, 2, 0] rfl ?_
    refine wx7_copy_L106 ga0 ga1 (fun s62 h => ?_) FU _ _ h
    · refine gx_aload_n 149 0 dX7_copy_149 rfl ?_
      exact gx_aret 150 (Or.inl ⟨_, rfl⟩) dX7_copy_150 (rt h)
/-! VerbAtDusk$Fixed.at -/
noncomputable def x19_at (a0 : Int) (a1 : Int) (s0 : XS) : Option (Int × XS) :=
  gd (isMo a1) <|
  gd (tg true s0 a0 = 16) <|
  some ((s0 a0 0), s0)
theorem mx19_at {x0 : Nat} {D : XD} {a0 : Int} {a1 : Int} {s0 : XS} {res : Int × XS} (h : x19_at a0 a1 s0 = some res) (l : Launch) : XMet0 l yX19_at cX19_at 2 (some .long) 1 true x0 D [.ref (ad x0 a0), .ref (ad x0 a1)] s0 2 res := by
  refine XMet0.ofn [(0, .ref (ad x0 a0)), (1, .ref (ad x0 a1))] "VerbAtDusk$Fixed" "at" rfl rfl (plainFor_of_name (by decide)) (Nat.le_of_ble_eq_true rfl) rfl ?_
  unfold x19_at at h
  generalize nC s0 = cN
  generalize nS s0 = sN
  obtain ⟨ga1, h⟩ := gd_e h
  refine gx_aload_n 0 0 dX19_at_0 rfl ?_
  obtain ⟨g2, h⟩ := gd_e h
  refine gx_get (t := 16) (k := 0) (v := Lg (s0 a0 0)) 1 cw16 (by decide) g2 q1157 same_f rfl dX19_at_1 ?_
  exact gx_lret 4 dX19_at_4 (rt h)
/-! VerbAtDusk$Asked.at -/
noncomputable def x20_at (a0 : Int) (a1 : Int) (s0 : XS) : Option (Int × XS) :=
  gd (isMo a1) <|
  gd (tg true s0 a0 = 17) <|
  gd (ok 9 (s0 a0 0)) <|
  Option.bind (x0_held (s0 (a1 + 1) (i32 (s0 a0 0))) s0) fun z4 =>
  some (z4.1, z4.2)
theorem mx20_at {x0 : Nat} {D : XD} {a0 : Int} {a1 : Int} {s0 : XS} {res : Int × XS} (h : x20_at a0 a1 s0 = some res) (l : Launch) : XMet0 l yX20_at cX20_at 2 (some .long) 3 true x0 D [.ref (ad x0 a0), .ref (ad x0 a1)] s0 2 res := by
  refine XMet0.ofn [(0, .ref (ad x0 a0)), (1, .ref (ad x0 a1))] "VerbAtDusk$Asked" "at" rfl rfl (plainFor_of_name (by decide)) (Nat.le_of_ble_eq_true rfl) rfl ?_
  unfold x20_at at h
  generalize nC s0 = cN
  generalize nS s0 = sN
  obtain ⟨ga1, h⟩ := gd_e h
  refine gx_aload_n 0 1 dX20_at_0 rfl ?_
  refine gx_getN (t := 5) (k := 0) (v := .ref (ad x0 (a1 + 1))) 1 cw5 (by decide) (tgs (mo_0 ga1) (by decide)) q384 same_f (rf_ne (nes (mo_1 ga1) (by decide))) dX20_at_1 ?_
  refine gx_aload_n 4 0 dX20_at_4 rfl ?_
  obtain ⟨g2, h⟩ := gd_e h
  refine gx_get (t := 17) (k := 0) (v := J (s0 a0 0)) 5 cw17 (by decide) g2 q1169 same_f rfl dX20_at_5 ?_
  obtain ⟨g3, h⟩ := gd_e h
  refine gx_lald 8 (tgs (mo_1 ga1) (by decide)) (oks (mo_1 ga1) (by decide) g3) dX20_at_8 ?_
  obtain ⟨z4, ez4, h⟩ := opt_e h
  refine gx_callSN (As := [Lg (s0 (a1 + 1) (i32 (s0 a0 0)))]) (rest := []) (st' := [Lg z4.1]) 9 1 (mx0_held ez4 l) q1397 q147 q1395 q1396 (by decide +kernel) (by decide) rfl rfl (Nat.le_of_ble_eq_true rfl) dX20_at_9 rfl ?_
  exact gx_lret 12 dX20_at_12 (rt h)
/-! VerbAtDusk$Chain.two -/
noncomputable def x17_two (a1 : Int) (a2 : Int) (a3 : Int) (s0 : XS) : Option (Int × XS) :=
  bnd (fun (x1_4 : Int) (x3_5 : Int) (s6 : XS) =>
      if i64 x3_5 = i64 0 then
        some (0, s6)
      else
        Option.bind (j12_floorDiv true x1_4 x3_5 s6) fun z8 =>
        some (z8.1, z8.2)) fun j9 =>
  if i32 a1 = 42 then
    some ((a2 * a3), s0)
  else
  if i32 a1 = 43 then
    some ((a2 + a3), s0)
  else
  if i32 a1 = 44 then
    j9 a2 a3 s0
  else
  if i32 a1 = 45 then
    some ((a2 - a3), s0)
  else
    j9 a2 a3 s0
theorem mx17_two {x0 : Nat} {D : XD} {a1 : Int} {a2 : Int} {a3 : Int} {s0 : XS} {res : Int × XS} (h : x17_two a1 a2 a3 s0 = some res) (l : Launch) : XMet0 l yX17_two cX17_two 5 (some .long) 2 true x0 D [J a1, Lg a2, Lg a3] s0 2 res := by
  refine XMet0.ofn [(0, J a1), (1, Lg a2), (3, Lg a3)] "VerbAtDusk$Chain" "two" rfl rfl (plainFor_of_name (by decide)) (Nat.le_of_ble_eq_true rfl) rfl ?_
  unfold x17_two at h
  generalize nC s0 = cN
  generalize nS s0 = sN
  refine gx_iload_n 0 0 dX17_two_0 rfl ?_
  obtain ⟨j9, ej9, h⟩ := bnd_e h
  have hj9 : ∀ (x1_4 : Int) (x3_5 : Int) (s6 : XS), j9 x1_4 x3_5 s6 = some res → GX l cX17_two "VerbAtDusk$Chain" 5 (some .long) "two" [] x0 D true 2 2 cN sN (0, res) s6 44 [(1, Lg x1_4), (3, Lg x3_5)] [] := by
    clear h
    intro x1_4 x3_5 s6 h
    subst ej9
    refine gx_lload_n 44 1 dX17_two_44 rfl ?_
    refine gx_lconst (v := 0) 45 dX17_two_45 (by decide) ?_
    refine gx_lcmp_ne 46 54 dX17_two_46 dX17_two_47 (by decide) (fun c7 => ?_) (fun c7 => ?_)
    · replace h := if_f h c7
      refine gx_lload_n 54 0 dX17_two_54 rfl ?_
      refine gx_lload_n 55 1 dX17_two_55 rfl ?_
      obtain ⟨z8, ez8, h⟩ := opt_e h
      refine gx_callS (As := [Lg x1_4, Lg x3_5]) (rest := []) (st' := [Lg z8.1]) 56 2 (mj12_floorDiv ez8 l) (lw_S q1446 q1447 q170 q1448) (by decide +kernel) (by decide) rfl rfl (Nat.le_of_ble_eq_true rfl) dX17_two_56 rfl ?_
      exact gx_lret 59 dX17_two_59 (rt h)
    · replace h := if_t h c7
      refine gx_lconst (v := 0) 50 dX17_two_50 (by decide) ?_
      refine gx_goto 51 59 dX17_two_51 (by decide) ?_
      exact gx_lret 59 dX17_two_59 (rt h)
  by_cases c10 : i32 a1 = 42
  · replace h := if_t h c10
    refine gx_tableIn 1 40 42 dX17_two_1 c10 (by decide) (by decide) rfl (by decide) ?_
    refine gx_lload_n 40 1 dX17_two_40 rfl ?_
    refine gx_lload_n 41 2 dX17_two_41 rfl ?_
    refine gx_lmul 42 dX17_two_42 ?_
    exact gx_lret 43 dX17_two_43 (rt h)
  replace h := if_f h c10
  by_cases c11 : i32 a1 = 43
  · replace h := if_t h c11
    refine gx_tableIn 1 32 43 dX17_two_1 c11 (by decide) (by decide) rfl (by decide) ?_
    refine gx_lload_n 32 1 dX17_two_32 rfl ?_
    refine gx_lload_n 33 2 dX17_two_33 rfl ?_
    refine gx_ladd 34 dX17_two_34 ?_
    exact gx_lret 35 dX17_two_35 (rt h)
  replace h := if_f h c11
  by_cases c12 : i32 a1 = 44
  · replace h := if_t h c12
    refine gx_tableIn 1 44 44 dX17_two_1 c12 (by decide) (by decide) rfl (by decide) ?_
    refine gx_sub [1, 2] rfl ?_
    exact hj9 _ _ _ h
  replace h := if_f h c12
  by_cases c13 : i32 a1 = 45
  · replace h := if_t h c13
    refine gx_tableIn 1 36 45 dX17_two_1 c13 (by decide) (by decide) rfl (by decide) ?_
    refine gx_lload_n 36 1 dX17_two_36 rfl ?_
    refine gx_lload_n 37 2 dX17_two_37 rfl ?_
    refine gx_lsub 38 dX17_two_38 ?_
    exact gx_lret 39 dX17_two_39 (rt h)
  replace h := if_f h c13
  refine gx_tableOut 1 44 dX17_two_1 (by omega) (by decide) ?_
  refine gx_sub [1, 2] rfl ?_
  exact hj9 _ _ _ h
noncomputable def AtM (l : Launch) (x0 : Nat) (D : XD) (d : Nat) (ce mo : Int) (τ : XS) (z : Int × XS) : Prop := (tg true τ ce = 14 ∧ ∃ d1, d1 ≤ d ∧ XMet0 l yX17_at cX17_at 5 (some .long) d1 true x0 D [.ref (ad x0 ce), .ref (ad x0 mo)] τ 2 z) ∨ (tg true τ ce = 15 ∧ ∃ d1, d1 ≤ d ∧ XMet0 l yX18_at cX18_at 6 (some .long) d1 true x0 D [.ref (ad x0 ce), .ref (ad x0 mo)] τ 2 z) ∨ (tg true τ ce = 16 ∧ ∃ d1, d1 ≤ d ∧ XMet0 l yX19_at cX19_at 2 (some .long) d1 true x0 D [.ref (ad x0 ce), .ref (ad x0 mo)] τ 2 z) ∨ (tg true τ ce = 17 ∧ ∃ d1, d1 ≤ d ∧ XMet0 l yX20_at cX20_at 2 (some .long) d1 true x0 D [.ref (ad x0 ce), .ref (ad x0 mo)] τ 2 z) ∨ (tg true τ ce = 18 ∧ ∃ d1, d1 ≤ d ∧ XMet0 l yX21_at cX21_at 2 (some .long) d1 true x0 D [.ref (ad x0 ce), .ref (ad x0 mo)] τ 2 z)
theorem gx_callAt {l : Launch} {nL x0 : Nat} {D : XD} {tv dp c0 s0 : Nat} {res : RX} {σ : XS} {lv : List (Nat × Value)} {st : List Value} {cc : ByteArray} {own mn : String} {xt : List ExceptionTableEntry} {ret : Option FieldType} {d idx : Nat} {ce mo : Int} {rest st' : List Value} {z : Int × XS} (pc : Nat) (hM : AtM l x0 D d ce mo σ z) (hl : Cond.methodLink own idx (⟨"VerbAtDusk$Value", "at", "(LVerbAtDusk$Moment;)J"⟩ : MethodName) ∈ lw_all) (hR : d + 1 ≤ dp) (hst : st = [Value.ref (ad x0 mo)].reverse ++ .ref (ad x0 ce) :: rest) (hW : (rest.map fun v => v.category).sum ≤ 8) (hd : decode cc pc = .ok (.invokevirtual idx, 3)) (hst' : (tvx x0 2 z.1).toList ++ rest = st') (k : GX l cc own nL ret mn xt x0 D true tv dp c0 s0 res z.2 (pc + 3) lv st') : GX l cc own nL ret mn xt x0 D true tv dp c0 s0 res σ pc lv st := by
  rcases hM with ⟨ht, d1, hd1, hM⟩ | ⟨ht, d1, hd1, hM⟩ | ⟨ht, d1, hd1, hM⟩ | ⟨ht, d1, hd1, hM⟩ | ⟨ht, d1, hd1, hM⟩
  · exact gx_callA (x := (⟨"VerbAtDusk$Value", "at", "(LVerbAtDusk$Moment;)J"⟩ : MethodName)) (y := yX17_at) (As := [.ref (ad x0 mo)]) pc 1 cw14 ht hM (lw_app (lw_in5 hl q1391 q1406 q1407 q179) (lw_meth q1408)) q1390 (by decide +kernel) (by omega) rfl hst hW hd hst' k
  · exact gx_callA (x := (⟨"VerbAtDusk$Value", "at", "(LVerbAtDusk$Moment;)J"⟩ : MethodName)) (y := yX18_at) (As := [.ref (ad x0 mo)]) pc 1 cw15 ht hM (lw_app (lw_in5 hl q1391 q1452 q1418 q182) (lw_meth q1419)) q1390 (by decide +kernel) (by omega) rfl hst hW hd hst' k
  · exact gx_callA (x := (⟨"VerbAtDusk$Value", "at", "(LVerbAtDusk$Moment;)J"⟩ : MethodName)) (y := yX19_at) (As := [.ref (ad x0 mo)]) pc 1 cw16 ht hM (lw_app (lw_in5 hl q1391 q1450 q1413 q183) (lw_meth q1414)) q1390 (by decide +kernel) (by omega) rfl hst hW hd hst' k
  · exact gx_callA (x := (⟨"VerbAtDusk$Value", "at", "(LVerbAtDusk$Moment;)J"⟩ : MethodName)) (y := yX20_at) (As := [.ref (ad x0 mo)]) pc 1 cw17 ht hM (lw_app (lw_in5 hl q1391 q1392 q1393 q184) (lw_meth q1394)) q1390 (by decide +kernel) (by omega) rfl hst hW hd hst' k
  · exact gx_callA (x := (⟨"VerbAtDusk$Value", "at", "(LVerbAtDusk$Moment;)J"⟩ : MethodName)) (y := yX21_at) (As := [.ref (ad x0 mo)]) pc 1 cw18 ht hM (lw_app (lw_in5 hl q1391 q1451 q1415 q185) (lw_meth q1416)) q1390 (by decide +kernel) (by omega) rfl hst hW hd hst' k
/-! VerbAtDusk$State.well -/
noncomputable def x7_well (rc : Int → Int → XS → Option (Int × XS)) (a0 : Int) (a1 : Int) (a2 : Int) (s0 : XS) : Option (Int × XS) :=
  gd (isSt a0) <|
  gd (¬ (s0 0 0) = -1) <|
  gd (tg true s0 (s0 0 0) = 2) <|
  if (s0 (s0 0 0) 7) = -1 then
    gd (¬ (s0 0 0) = -1) <|
    gd (tg true s0 (s0 0 0) = 2) <|
    gd (¬ (s0 (s0 0 0) 5) = -1) <|
    gd (tg true s0 (s0 (s0 0 0) 5) = 21) <|
    Option.bind (j2_get true (s0 (s0 0 0) 5) a2 s0) fun z14 =>
    gd (tg true z14.2 z14.1 = 10) <|
    gd (tg true z14.2 z14.1 = 10) <|
    some ((i32 (z14.2 z14.1 2)), z14.2)
  else
    Option.bind (x7_asks a0 a1 a2 s0) fun z6 =>
    gd (¬ (z6.2 0 0) = -1) <|
    gd (tg true z6.2 (z6.2 0 0) = 2) <|
    gd (¬ (z6.2 (z6.2 0 0) 7) = -1) <|
    Option.bind (rc (z6.2 (z6.2 0 0) 7) 9 z6.2) fun z10 =>
    some (z10.1, z10.2)
theorem mx7_well {rc : Int → Int → XS → Option (Int × XS)} {d : Nat} {x0 : Nat} {D : XD} {a0 : Int} {a1 : Int} {a2 : Int} {s0 : XS} {res : Int × XS} {l : Launch} (hrc : ∀ (c_ v_ : Int) (t_ : XS) (z_ : Int × XS), rc c_ v_ t_ = some z_ → AtM l x0 D d c_ v_ t_ z_) (h : x7_well rc a0 a1 a2 s0 = some res) : XMet0 l yX7_well cX7_well 3 (some .long) (d + 5) true x0 D [.ref (ad x0 a0), J a1, J a2] s0 2 res := by
  refine XMet0.ofn [(0, .ref (ad x0 a0)), (1, J a1), (2, J a2)] "VerbAtDusk$State" "well" rfl rfl (plainFor_of_name (by decide)) (Nat.le_of_ble_eq_true rfl) rfl ?_
  unfold x7_well at h
  generalize nC s0 = cN
  generalize nS s0 = sN
  obtain ⟨ga0, h⟩ := gd_e h
  refine gx_aload_n 0 0 dX7_well_0 rfl ?_
  refine gx_get (t := 8) (k := 9) (v := .ref (ad x0 0)) 1 cw8 (by decide) (tgs (st_0 ga0) (by decide)) q493 same_f (rf_ne (nes (show stc 0 = (1, 0) by decide) (by decide))) dX7_well_1 ?_
  obtain ⟨g3, h⟩ := gd_e h
  refine gx_getN (t := 1) (k := 0) (v := .ref (ad x0 (s0 0 0))) 4 cw1 (by decide) (tgs (show stc 0 = (1, 0) by decide) (by decide)) q517 same_f (rf_ne g3) dX7_well_4 ?_
  obtain ⟨g4, h⟩ := gd_e h
  refine gx_gifnonnullN (t := 2) (k := 7) 7 37 cw2 (by decide) g4 q250 same_f rfl dX7_well_7 dX7_well_10 (by decide) (fun c5 => ?_) (fun c5 => ?_)
  · replace h := if_f h c5
    refine gx_aload_n 37 0 dX7_well_37 rfl ?_
    refine gx_iload_n 38 1 dX7_well_38 rfl ?_
    refine gx_iload_n 39 2 dX7_well_39 rfl ?_
    obtain ⟨z6, ez6, h⟩ := opt_e h
    refine gx_callV (As := [J a1, J a2]) (rest := []) (st' := []) 40 2 cw8 (tgs (st_0 ga0) (by decide)) (mx7_asks ez6 l) (lw_V q1364 q1366 qs37 q160 q1367) (by decide +kernel) (by omega) rfl rfl (Nat.le_of_ble_eq_true rfl) dX7_well_40 rfl ?_
    refine gx_aload_n 43 0 dX7_well_43 rfl ?_
    refine gx_get (t := 8) (k := 9) (v := .ref (ad x0 0)) 44 cw8 (by decide) (tgs (st_0 ga0) (by decide)) q493 same_f (rf_ne (nes (show stc 0 = (1, 0) by decide) (by decide))) dX7_well_44 ?_
    obtain ⟨g7, h⟩ := gd_e h
    refine gx_getN (t := 1) (k := 0) (v := .ref (ad x0 (z6.2 0 0))) 47 cw1 (by decide) (tgs (show stc 0 = (1, 0) by decide) (by decide)) q517 same_f (rf_ne g7) dX7_well_47 ?_
    obtain ⟨g8, h⟩ := gd_e h
    obtain ⟨g9, h⟩ := gd_e h
    refine gx_getN (t := 2) (k := 7) (v := .ref (ad x0 (z6.2 (z6.2 0 0) 7))) 50 cw2 (by decide) g8 q250 same_f (rf_ne g9) dX7_well_50 ?_
    refine gx_aload_n 53 0 dX7_well_53 rfl ?_
    refine gx_get (t := 8) (k := 9) (v := .ref (ad x0 0)) 54 cw8 (by decide) (tgs (st_0 ga0) (by decide)) q493 same_f (rf_ne (nes (show stc 0 = (1, 0) by decide) (by decide))) dX7_well_54 ?_
    refine gx_getN (t := 1) (k := 6) (v := .ref (ad x0 9)) 57 cw1 (by decide) (tgs (show stc 0 = (1, 0) by decide) (by decide)) q526 same_f (rf_ne (nes (show stc 9 = (5, 0) by decide) (by decide))) dX7_well_57 ?_
    obtain ⟨z10, ez10, h⟩ := opt_e h
    refine gx_callAt (rest := []) (st' := [Lg z10.1]) 60 (hrc _ _ _ _ ez10) q1429 (by omega) rfl (Nat.le_of_ble_eq_true rfl) dX7_well_60 rfl ?_
    exact gx_lret 63 dX7_well_63 (rt h)
  · replace h := if_t h c5
    refine gx_aload_n 13 0 dX7_well_13 rfl ?_
    refine gx_get (t := 8) (k := 9) (v := .ref (ad x0 0)) 14 cw8 (by decide) (tgs (st_0 ga0) (by decide)) q493 same_f (rf_ne (nes (show stc 0 = (1, 0) by decide) (by decide))) dX7_well_14 ?_
    obtain ⟨g11, h⟩ := gd_e h
    refine gx_getN (t := 1) (k := 0) (v := .ref (ad x0 (s0 0 0))) 17 cw1 (by decide) (tgs (show stc 0 = (1, 0) by decide) (by decide)) q517 same_f (rf_ne g11) dX7_well_17 ?_
    obtain ⟨g12, h⟩ := gd_e h
    obtain ⟨g13, h⟩ := gd_e h
    refine gx_getN (t := 2) (k := 5) (v := .ref (ad x0 (s0 (s0 0 0) 5))) 20 cw2 (by decide) g12 q245 same_f (rf_ne g13) dX7_well_20 ?_
    refine gx_iload_n 23 2 dX7_well_23 rfl ?_
    obtain ⟨g15, h⟩ := gd_e h
    obtain ⟨z14, ez14, h⟩ := opt_e h
    refine gx_callF (As := [J a2]) (rest := []) (st' := [.ref (ad x0 z14.1)]) 24 1 cw21 rfl g15  (mj2_get ez14 l) (lw_app (lw_in4 q1295 q863 q865 q151) (lw_meth q867)) (by decide) (by decide +kernel) (by omega) rfl rfl (Nat.le_of_ble_eq_true rfl) dX7_well_24 rfl ?_
    obtain ⟨g16, h⟩ := gd_e h
    refine gx_castS 29 cw10 g16 q1368 dX7_well_29 ?_
    obtain ⟨g17, h⟩ := gd_e h
    refine gx_getN (t := 10) (k := 2) (v := J (z14.2 z14.1 2)) 32 cw10 (by decide) g17 q1000 same_f rfl dX7_well_32 ?_
    refine gx_i2l 35 dX7_well_35 ?_
    exact gx_lret 36 dX7_well_36 (rt h)
/-! VerbAtDusk.looked -/
noncomputable def x0_looked (rc : Int → Int → XS → Option (Int × XS)) (a1 : Int) (a2 : Int) (s0 : XS) : Option (Int × XS) :=
  if i64 a2 < i64 0 then
    some (0, s0)
  else
    Option.bind (x0_verbs s0) fun z4 =>
    if i64 a2 < i64 (i32 z4.1) then
      if i32 a1 = 0 then
        gd (ok 6 (z4.2 0 21)) <|
        gd (ok 7 a2) <|
        some ((i32 (z4.2 (41 + 1 + i32 (z4.2 0 21)) (i32 a2))), z4.2)
      else
        Option.bind (x7_well rc 36 (z4.2 0 21) a2 z4.2) fun z7 =>
        some (z7.1, z7.2)
    else
      some (0, z4.2)
theorem mx0_looked {rc : Int → Int → XS → Option (Int × XS)} {d : Nat} {x0 : Nat} {D : XD} {a1 : Int} {a2 : Int} {s0 : XS} {res : Int × XS} {l : Launch} (hrc : ∀ (c_ v_ : Int) (t_ : XS) (z_ : Int × XS), rc c_ v_ t_ = some z_ → AtM l x0 D d c_ v_ t_ z_) (h : x0_looked rc a1 a2 s0 = some res) : XMet0 l yX0_looked cX0_looked 4 (some .long) (d + 6) true x0 D [.ref (ad x0 0), J a1, Lg a2] s0 2 res := by
  refine XMet0.ofn [(0, .ref (ad x0 0)), (1, J a1), (2, Lg a2)] "VerbAtDusk" "looked" rfl rfl (plainFor_of_name (by decide)) (Nat.le_of_ble_eq_true rfl) rfl ?_
  unfold x0_looked at h
  generalize nC s0 = cN
  generalize nS s0 = sN
  refine gx_lload_n 0 2 dX0_looked_0 rfl ?_
  refine gx_lconst (v := 0) 1 dX0_looked_1 (by decide) ?_
  refine gx_lcmp_lt 2 16 dX0_looked_2 dX0_looked_3 (by decide) (fun c3 => ?_) (fun c3 => ?_)
  · replace h := if_t h c3
    refine gx_lconst (v := 0) 16 dX0_looked_16 (by decide) ?_
    exact gx_lret 17 dX0_looked_17 (rt h)
  · replace h := if_f h c3
    refine gx_lload_n 6 2 dX0_looked_6 rfl ?_
    refine gx_aload_n 7 0 dX0_looked_7 rfl ?_
    obtain ⟨z4, ez4, h⟩ := opt_e h
    refine gx_callV (As := []) (rest := [Lg a2]) (st' := [J z4.1, Lg a2]) 8 0 cw1 (tgs (show stc 0 = (1, 0) by decide) (by decide)) (mx0_verbs ez4 l) (lw_V q1306 q1308 qs34 q147 q1309) (by decide +kernel) (by omega) rfl rfl (Nat.le_of_ble_eq_true rfl) dX0_looked_8 rfl ?_
    refine gx_i2l 11 dX0_looked_11 ?_
    refine gx_lcmp_lt 12 18 dX0_looked_12 dX0_looked_13 (by decide) (fun c5 => ?_) (fun c5 => ?_)
    · replace h := if_t h c5
      refine gx_iload_n 18 1 dX0_looked_18 rfl ?_
      refine gx_if_ne 19 41 dX0_looked_19 (by decide) (fun c6 => ?_) (fun c6 => ?_)
      · replace h := if_f h c6
        refine gx_aload_n 41 0 dX0_looked_41 rfl ?_
        refine gx_get (t := 1) (k := 11) (v := .ref (ad x0 36)) 42 cw1 (by decide) (tgs (show stc 0 = (1, 0) by decide) (by decide)) q534 same_f (rf_ne (nes (show stc 36 = (8, 6) by decide) (by decide))) dX0_looked_42 ?_
        refine gx_aload_n 45 0 dX0_looked_45 rfl ?_
        refine gx_get (t := 1) (k := 21) (v := J (z4.2 0 21)) 46 cw1 (by decide) (tgs (show stc 0 = (1, 0) by decide) (by decide)) q544 same_f rfl dX0_looked_46 ?_
        refine gx_lload_n 49 2 dX0_looked_49 rfl ?_
        refine gx_l2i 50 dX0_looked_50 ?_
        obtain ⟨z7, ez7, h⟩ := opt_e h
        refine gx_callV (As := [J (z4.2 0 21), J a2]) (rest := []) (st' := [Lg z7.1]) 51 2 cw8 (tgs (show stc 36 = (8, 6) by decide) (by decide)) (mx7_well hrc ez7) (lw_V q1425 q1426 q1427 q160 q1428) (by decide +kernel) (by omega) rfl rfl (Nat.le_of_ble_eq_true rfl) dX0_looked_51 rfl ?_
        exact gx_lret 54 dX0_looked_54 (rt h)
      · replace h := if_t h c6
        refine gx_aload_n 22 0 dX0_looked_22 rfl ?_
        refine gx_get (t := 1) (k := 11) (v := .ref (ad x0 36)) 23 cw1 (by decide) (tgs (show stc 0 = (1, 0) by decide) (by decide)) q534 same_f (rf_ne (nes (show stc 36 = (8, 6) by decide) (by decide))) dX0_looked_23 ?_
        refine gx_getN (t := 8) (k := 7) (v := .ref (ad x0 41)) 26 cw8 (by decide) (tgs (show stc 36 = (8, 6) by decide) (by decide)) q490 same_f (rf_ne (nes (show stc 41 = (121, 6) by decide) (by decide))) dX0_looked_26 ?_
        refine gx_aload_n 29 0 dX0_looked_29 rfl ?_
        refine gx_get (t := 1) (k := 21) (v := J (z4.2 0 21)) 30 cw1 (by decide) (tgs (show stc 0 = (1, 0) by decide) (by decide)) q544 same_f rfl dX0_looked_30 ?_
        obtain ⟨g8, h⟩ := gd_e h
        refine gx_aald (t := 121) (ty := (.array .int)) (r := (41 + 1 + i32 (z4.2 0 21))) 33 (by decide) rfl (by decide) (tgs (show stc 41 = (121, 6) by decide) (by decide)) (oks (show stc 41 = (121, 6) by decide) (by decide) g8) rfl (nes (st_g (ce := 36) (by decide) g8) (by decide)) dX0_looked_33 ?_
        refine gx_lload_n 34 2 dX0_looked_34 rfl ?_
        refine gx_l2i 35 dX0_looked_35 ?_
        obtain ⟨g9, h⟩ := gd_e h
        refine gx_iald 36 (tgs (st_g (ce := 36) (by decide) g8) (by decide)) (oks (st_g (ce := 36) (by decide) g8) (by decide) g9) dX0_looked_36 ?_
        refine gx_i2l 37 dX0_looked_37 ?_
        refine gx_goto 38 54 dX0_looked_38 (by decide) ?_
        exact gx_lret 54 dX0_looked_54 (rt h)
    · replace h := if_f h c5
      refine gx_lconst (v := 0) 16 dX0_looked_16 (by decide) ?_
      exact gx_lret 17 dX0_looked_17 (rt h)
/-! VerbAtDusk$Looked.at -/
noncomputable def x21_at (rc : Int → Int → XS → Option (Int × XS)) (a0 : Int) (a1 : Int) (s0 : XS) : Option (Int × XS) :=
  gd (isMo a1) <|
  gd (tg true s0 a0 = 18) <|
  gd (¬ (s0 a0 2) = -1) <|
  gd (tg true s0 a0 = 18) <|
  gd (tg true s0 a0 = 18) <|
  gd (¬ (s0 a0 1) = -1) <|
  Option.bind (rc (s0 a0 1) a1 s0) fun z7 =>
  gd ((s0 a0 2) = 0) <|
  Option.bind (x0_looked rc (s0 a0 0) z7.1 z7.2) fun z8 =>
  Option.bind (x0_held z8.1 z8.2) fun z10 =>
  some (z10.1, z10.2)
theorem mx21_at {rc : Int → Int → XS → Option (Int × XS)} {d : Nat} {x0 : Nat} {D : XD} {a0 : Int} {a1 : Int} {s0 : XS} {res : Int × XS} {l : Launch} (hrc : ∀ (c_ v_ : Int) (t_ : XS) (z_ : Int × XS), rc c_ v_ t_ = some z_ → AtM l x0 D d c_ v_ t_ z_) (h : x21_at rc a0 a1 s0 = some res) : XMet0 l yX21_at cX21_at 2 (some .long) (d + 7) true x0 D [.ref (ad x0 a0), .ref (ad x0 a1)] s0 2 res := by
  refine XMet0.ofn [(0, .ref (ad x0 a0)), (1, .ref (ad x0 a1))] "VerbAtDusk$Looked" "at" rfl rfl (plainFor_of_name (by decide)) (Nat.le_of_ble_eq_true rfl) rfl ?_
  unfold x21_at at h
  generalize nC s0 = cN
  generalize nS s0 = sN
  obtain ⟨ga1, h⟩ := gd_e h
  refine gx_aload_n 0 0 dX21_at_0 rfl ?_
  obtain ⟨g2, h⟩ := gd_e h
  obtain ⟨g3, h⟩ := gd_e h
  refine gx_get (t := 18) (k := 2) (v := .ref (ad x0 (s0 a0 2))) 1 cw18 (by decide) g2 q1187 same_f (rf_ne g3) dX21_at_1 ?_
  refine gx_aload_n 4 0 dX21_at_4 rfl ?_
  obtain ⟨g4, h⟩ := gd_e h
  refine gx_get (t := 18) (k := 0) (v := J (s0 a0 0)) 5 cw18 (by decide) g4 q1185 same_f rfl dX21_at_5 ?_
  refine gx_aload_n 8 0 dX21_at_8 rfl ?_
  obtain ⟨g5, h⟩ := gd_e h
  obtain ⟨g6, h⟩ := gd_e h
  refine gx_get (t := 18) (k := 1) (v := .ref (ad x0 (s0 a0 1))) 9 cw18 (by decide) g5 q1186 same_f (rf_ne g6) dX21_at_9 ?_
  refine gx_aload_n 12 1 dX21_at_12 rfl ?_
  obtain ⟨z7, ez7, h⟩ := opt_e h
  refine gx_callAt (rest := [J (s0 a0 0), .ref (ad x0 (s0 a0 2))]) (st' := [Lg z7.1, J (s0 a0 0), .ref (ad x0 (s0 a0 2))]) 13 (hrc _ _ _ _ ez7) q1417 (by omega) rfl (Nat.le_of_ble_eq_true rfl) dX21_at_13 rfl ?_
  obtain ⟨g9, h⟩ := gd_e h
  rw [g9]
  obtain ⟨z8, ez8, h⟩ := opt_e h
  refine gx_callVN (As := [J (s0 a0 0), Lg z7.1]) (rest := []) (st' := [Lg z8.1]) 16 2 cw1 (tgs (show stc 0 = (1, 0) by decide) (by decide)) (mx0_looked hrc ez8) q1424 q147 q1421 q1423 qs38 (by decide +kernel) (by omega) rfl rfl (Nat.le_of_ble_eq_true rfl) dX21_at_16 rfl ?_
  obtain ⟨z10, ez10, h⟩ := opt_e h
  refine gx_callSN (As := [Lg z8.1]) (rest := []) (st' := [Lg z10.1]) 19 1 (mx0_held ez10 l) q1397 q147 q1430 q1396 (by decide +kernel) (by omega) rfl rfl (Nat.le_of_ble_eq_true rfl) dX21_at_19 rfl ?_
  exact gx_lret 22 dX21_at_22 (rt h)
/-! VerbAtDusk$Pair.at -/
noncomputable def x18_at (rc : Int → Int → XS → Option (Int × XS)) (a0 : Int) (a1 : Int) (s0 : XS) : Option (Int × XS) :=
  gd (isMo a1) <|
  gd (tg true s0 a0 = 15) <|
  gd (¬ (s0 a0 1) = -1) <|
  Option.bind (rc (s0 a0 1) a1 s0) fun z4 =>
  bnd z4.1 fun x2_5 =>
  gd (tg true z4.2 a0 = 15) <|
  gd (¬ (z4.2 a0 2) = -1) <|
  Option.bind (rc (z4.2 a0 2) a1 z4.2) fun z8 =>
  bnd z8.1 fun x4_9 =>
  gd (tg true z8.2 a0 = 15) <|
  bnd (fun (x2_11 : Int) (x4_12 : Int) (w13 : Int) (w14 : Int) (s15 : XS) =>
      if i32 w14 = i32 w13 then
        some (x2_11, s15)
      else
        some (x4_12, s15)) fun j17 =>
  if i64 x2_5 ≤ i64 x4_9 then
    j17 x2_5 x4_9 0 (z8.2 a0 0) z8.2
  else
    j17 x2_5 x4_9 1 (z8.2 a0 0) z8.2
theorem mx18_at {rc : Int → Int → XS → Option (Int × XS)} {d : Nat} {x0 : Nat} {D : XD} {a0 : Int} {a1 : Int} {s0 : XS} {res : Int × XS} {l : Launch} (hrc : ∀ (c_ v_ : Int) (t_ : XS) (z_ : Int × XS), rc c_ v_ t_ = some z_ → AtM l x0 D d c_ v_ t_ z_) (h : x18_at rc a0 a1 s0 = some res) : XMet0 l yX18_at cX18_at 6 (some .long) (d + 1) true x0 D [.ref (ad x0 a0), .ref (ad x0 a1)] s0 2 res := by
  refine XMet0.ofn [(0, .ref (ad x0 a0)), (1, .ref (ad x0 a1))] "VerbAtDusk$Pair" "at" rfl rfl (plainFor_of_name (by decide)) (Nat.le_of_ble_eq_true rfl) rfl ?_
  unfold x18_at at h
  generalize nC s0 = cN
  generalize nS s0 = sN
  obtain ⟨ga1, h⟩ := gd_e h
  refine gx_aload_n 0 0 dX18_at_0 rfl ?_
  obtain ⟨g2, h⟩ := gd_e h
  obtain ⟨g3, h⟩ := gd_e h
  refine gx_get (t := 15) (k := 1) (v := .ref (ad x0 (s0 a0 1))) 1 cw15 (by decide) g2 q1142 same_f (rf_ne g3) dX18_at_1 ?_
  refine gx_aload_n 4 1 dX18_at_4 rfl ?_
  obtain ⟨z4, ez4, h⟩ := opt_e h
  refine gx_callAt (rest := []) (st' := [Lg z4.1]) 5 (hrc _ _ _ _ ez4) q1420 (by omega) rfl (Nat.le_of_ble_eq_true rfl) dX18_at_5 rfl ?_
  obtain ⟨x2_5, ex2_5, h⟩ := bnd_e h
  refine gx_lstore_n 8 [(2, Lg x2_5), (0, .ref (ad x0 a0)), (1, .ref (ad x0 a1))] dX18_at_8 (by decide) ex2_5 rfl ?_
  refine gx_aload_n 9 1 dX18_at_9 rfl ?_
  obtain ⟨g6, h⟩ := gd_e h
  obtain ⟨g7, h⟩ := gd_e h
  refine gx_get (t := 15) (k := 2) (v := .ref (ad x0 (z4.2 a0 2))) 10 cw15 (by decide) g6 q1143 same_f (rf_ne g7) dX18_at_10 ?_
  refine gx_aload_n 13 2 dX18_at_13 rfl ?_
  obtain ⟨z8, ez8, h⟩ := opt_e h
  refine gx_callAt (rest := []) (st' := [Lg z8.1]) 14 (hrc _ _ _ _ ez8) q1420 (by omega) rfl (Nat.le_of_ble_eq_true rfl) dX18_at_14 rfl ?_
  obtain ⟨x4_9, ex4_9, h⟩ := bnd_e h
  refine gx_lstore 17 [(4, Lg x4_9), (2, Lg x2_5), (0, .ref (ad x0 a0)), (1, .ref (ad x0 a1))] dX18_at_17 (by decide) ex4_9 rfl ?_
  refine gx_aload_n 19 2 dX18_at_19 rfl ?_
  obtain ⟨g10, h⟩ := gd_e h
  refine gx_get (t := 15) (k := 0) (v := J (z8.2 a0 0)) 20 cw15 (by decide) g10 q1141 same_f rfl dX18_at_20 ?_
  refine gx_lload_n 23 1 dX18_at_23 rfl ?_
  refine gx_lload 24 0 dX18_at_24 rfl ?_
  obtain ⟨j17, ej17, h⟩ := bnd_e h
  have hj17 : ∀ (x2_11 : Int) (x4_12 : Int) (w13 : Int) (w14 : Int) (s15 : XS), j17 x2_11 x4_12 w13 w14 s15 = some res → GX l cX18_at "VerbAtDusk$Pair" 6 (some .long) "at" [] x0 D true 2 (d + 1) cN sN (0, res) s15 35 [(2, Lg x2_11), (4, Lg x4_12)] [J w13, J w14] := by
    clear h
    intro x2_11 x4_12 w13 w14 s15 h
    subst ej17
    refine gx_icmp_ne 35 42 dX18_at_35 (by decide) (fun c16 => ?_) (fun c16 => ?_)
    · replace h := if_f h c16
      refine gx_lload 42 1 dX18_at_42 rfl ?_
      exact gx_lret 44 dX18_at_44 (rt h)
    · replace h := if_t h c16
      refine gx_lload_n 38 0 dX18_at_38 rfl ?_
      refine gx_goto 39 44 dX18_at_39 (by decide) ?_
      exact gx_lret 44 dX18_at_44 (rt h)
  refine gx_lcmp_le 26 34 dX18_at_26 dX18_at_27 (by decide) (fun c18 => ?_) (fun c18 => ?_)
  · replace h := if_t h c18
    refine gx_iconst 34 dX18_at_34 ?_
    refine gx_sub [1, 0] rfl ?_
    exact hj17 _ _ _ _ _ h
  · replace h := if_f h c18
    refine gx_iconst 30 dX18_at_30 ?_
    refine gx_goto 31 35 dX18_at_31 (by decide) ?_
    refine gx_sub [1, 0] rfl ?_
    exact hj17 _ _ _ _ _ h
/-! VerbAtDusk$Chain.at -/
noncomputable def x17_at_L21 (rc : Int → Int → XS → Option (Int × XS)) (a0 : Int) (a1 : Int) (k76 : Int → XS → Option (Int × XS)) : Nat → Int → Int → XS → Option (Int × XS)
  | 0, _, _, _ => none
  | n + 1, x2_10, x4_11, s12 =>
    gd (tg true s12 a0 = 14) <|
    gd (¬ (s12 a0 0) = -1) <|
    gd (tg true s12 (s12 a0 0) = 21) <|
    Option.bind (j2_size true (s12 a0 0) s12) fun z17 =>
    if i32 z17.1 ≤ i32 x4_11 then
      k76 x2_10 z17.2
    else
      gd (tg true z17.2 a0 = 14) <|
      gd (¬ (z17.2 a0 1) = -1) <|
      gd (tg true z17.2 (z17.2 a0 1) = 23) <|
      Option.bind (j15_charAt true (z17.2 a0 1) x4_11 z17.2) fun z22 =>
      gd (tg true z22.2 a0 = 14) <|
      gd (¬ (z22.2 a0 0) = -1) <|
      gd (tg true z22.2 (z22.2 a0 0) = 21) <|
      Option.bind (j2_get true (z22.2 a0 0) x4_11 z22.2) fun z26 =>
      gd (isAt (tg true z26.2 z26.1)) <|
      Option.bind (rc z26.1 a1 z26.2) fun z29 =>
      Option.bind (x17_two z22.1 x2_10 z29.1 z29.2) fun z30 =>
      Option.bind (x0_held z30.1 z30.2) fun z31 =>
      bnd z31.1 fun x2_32 =>
      bnd (x4_11 + 1) fun x4_33 =>
      x17_at_L21 rc a0 a1 k76 n x2_32 x4_33 z31.2
noncomputable def x17_at (rc : Int → Int → XS → Option (Int × XS)) (a0 : Int) (a1 : Int) (s0 : XS) : Option (Int × XS) :=
  gd (isMo a1) <|
  gd (tg true s0 a0 = 14) <|
  gd (¬ (s0 a0 0) = -1) <|
  gd (tg true s0 (s0 a0 0) = 21) <|
  Option.bind (j2_get true (s0 a0 0) 0 s0) fun z4 =>
  gd (isAt (tg true z4.2 z4.1)) <|
  Option.bind (rc z4.1 a1 z4.2) fun z7 =>
  bnd z7.1 fun x2_8 =>
  bnd 1 fun x4_9 =>
  x17_at_L21 rc a0 a1
    (fun (x2_34 : Int) (s35 : XS) =>
      some (x2_34, s35))
    FU x2_8 x4_9 z7.2
theorem wx17_at_L21 {l : Launch} {x0 : Nat} {D : XD} {cN sN : Nat} {res : Int × XS} {rc : Int → Int → XS → Option (Int × XS)} {d : Nat} (hrc : ∀ (c_ v_ : Int) (t_ : XS) (z_ : Int × XS), rc c_ v_ t_ = some z_ → AtM l x0 D d c_ v_ t_ z_) {a0 : Int} {a1 : Int} (ga1 : isMo a1) {k76 : Int → XS → Option (Int × XS)} (hk76 : ∀ (x2_13 : Int) (s14 : XS), k76 x2_13 s14 = some res → GX l cX17_at "VerbAtDusk$Chain" 5 (some .long) "at" [] x0 D true 2 (d + 5) cN sN (0, res) s14 76 [(2, Lg x2_13)] []) : ∀ (n : Nat) (x2_10 : Int) (x4_11 : Int) (s12 : XS), x17_at_L21 rc a0 a1 k76 n x2_10 x4_11 s12 = some res → GX l cX17_at "VerbAtDusk$Chain" 5 (some .long) "at" [] x0 D true 2 (d + 5) cN sN (0, res) s12 21 [(0, .ref (ad x0 a0)), (1, .ref (ad x0 a1)), (2, Lg x2_10), (4, J x4_11)] [] := by
  intro n
  induction n with
  | zero =>
    intro x2_10 x4_11 s12 h
    cases h
  | succ n ih =>
    intro x2_10 x4_11 s12 h
    rw [x17_at_L21] at h
    refine gx_iload 21 3 dX17_at_21 rfl ?_
    refine gx_aload_n 23 0 dX17_at_23 rfl ?_
    obtain ⟨g15, h⟩ := gd_e h
    obtain ⟨g16, h⟩ := gd_e h
    refine gx_get (t := 14) (k := 0) (v := .ref (ad x0 (s12 a0 0))) 24 cw14 (by decide) g15 q1116 same_f (rf_ne g16) dX17_at_24 ?_
    obtain ⟨g18, h⟩ := gd_e h
    obtain ⟨z17, ez17, h⟩ := opt_e h
    refine gx_callF (As := []) (rest := [J x4_11]) (st' := [J z17.1, J x4_11]) 27 0 cw21 rfl g18  (mj2_size ez17 l) (lw_app (lw_in4 q1432 q823 q825 q151) (lw_meth q827)) (by decide) (by decide +kernel) (by omega) rfl rfl (Nat.le_of_ble_eq_true rfl) dX17_at_27 rfl ?_
    refine gx_icmp_ge 32 76 dX17_at_32 (by decide) (fun c19 => ?_) (fun c19 => ?_)
    · replace h := if_t h c19
      refine gx_sub [2] rfl ?_
      exact hk76 _ _ h
    · replace h := if_f h c19
      refine gx_aload_n 35 0 dX17_at_35 rfl ?_
      obtain ⟨g20, h⟩ := gd_e h
      obtain ⟨g21, h⟩ := gd_e h
      refine gx_get (t := 14) (k := 1) (v := .ref (ad x0 (z17.2 a0 1))) 36 cw14 (by decide) g20 q1117 same_f (rf_ne g21) dX17_at_36 ?_
      refine gx_iload 39 3 dX17_at_39 rfl ?_
      obtain ⟨g23, h⟩ := gd_e h
      obtain ⟨z22, ez22, h⟩ := opt_e h
      refine gx_callV (As := [J x4_11]) (rest := []) (st' := [J z22.1]) 41 1 cw23 g23 (mj15_charAt ez22 l) (lw_V q1433 q1434 q1435 q181 q1436) (by decide +kernel) (by omega) rfl rfl (Nat.le_of_ble_eq_true rfl) dX17_at_41 rfl ?_
      refine gx_lload_n 44 2 dX17_at_44 rfl ?_
      refine gx_aload_n 45 0 dX17_at_45 rfl ?_
      obtain ⟨g24, h⟩ := gd_e h
      obtain ⟨g25, h⟩ := gd_e h
      refine gx_get (t := 14) (k := 0) (v := .ref (ad x0 (z22.2 a0 0))) 46 cw14 (by decide) g24 q1116 same_f (rf_ne g25) dX17_at_46 ?_
      refine gx_iload 49 3 dX17_at_49 rfl ?_
      obtain ⟨g27, h⟩ := gd_e h
      obtain ⟨z26, ez26, h⟩ := opt_e h
      refine gx_callF (As := [J x4_11]) (rest := [Lg x2_10, J z22.1]) (st' := [.ref (ad x0 z26.1), Lg x2_10, J z22.1]) 51 1 cw21 rfl g27  (mj2_get ez26 l) (lw_app (lw_in4 q1410 q863 q865 q151) (lw_meth q867)) (by decide) (by decide +kernel) (by omega) rfl rfl (Nat.le_of_ble_eq_true rfl) dX17_at_51 rfl ?_
      obtain ⟨g28, h⟩ := gd_e h
      refine gx_castAt 56 g28 q1411 dX17_at_56 ?_
      refine gx_aload_n 59 1 dX17_at_59 rfl ?_
      obtain ⟨z29, ez29, h⟩ := opt_e h
      refine gx_callAt (rest := [Lg x2_10, J z22.1]) (st' := [Lg z29.1, Lg x2_10, J z22.1]) 60 (hrc _ _ _ _ ez29) q1412 (by omega) rfl (Nat.le_of_ble_eq_true rfl) dX17_at_60 rfl ?_
      obtain ⟨z30, ez30, h⟩ := opt_e h
      refine gx_callS (As := [J z22.1, Lg x2_10, Lg z29.1]) (rest := []) (st' := [Lg z30.1]) 63 3 (mx17_two ez30 l) (lw_S q1443 q1444 q179 q1445) (by decide +kernel) (by omega) rfl rfl (Nat.le_of_ble_eq_true rfl) dX17_at_63 rfl ?_
      obtain ⟨z31, ez31, h⟩ := opt_e h
      refine gx_callSN (As := [Lg z30.1]) (rest := []) (st' := [Lg z31.1]) 66 1 (mx0_held ez31 l) q1397 q147 q1449 q1396 (by decide +kernel) (by omega) rfl rfl (Nat.le_of_ble_eq_true rfl) dX17_at_66 rfl ?_
      obtain ⟨x2_32, ex2_32, h⟩ := bnd_e h
      refine gx_lstore_n 69 [(2, Lg x2_32), (0, .ref (ad x0 a0)), (1, .ref (ad x0 a1)), (4, J x4_11)] dX17_at_69 (by decide) ex2_32 rfl ?_
      obtain ⟨x4_33, ex4_33, h⟩ := bnd_e h
      refine gx_iinc 70 3 [(4, J x4_33), (2, Lg x2_32), (0, .ref (ad x0 a0)), (1, .ref (ad x0 a1))] dX17_at_70 rfl ex4_33 (by decide) rfl ?_
      refine gx_goto 73 21 dX17_at_73 (by decide) ?_
      refine gx_sub [2, 3, 1, 0] rfl ?_
      exact ih _ _ _ h
theorem mx17_at {rc : Int → Int → XS → Option (Int × XS)} {d : Nat} {x0 : Nat} {D : XD} {a0 : Int} {a1 : Int} {s0 : XS} {res : Int × XS} {l : Launch} (hrc : ∀ (c_ v_ : Int) (t_ : XS) (z_ : Int × XS), rc c_ v_ t_ = some z_ → AtM l x0 D d c_ v_ t_ z_) (h : x17_at rc a0 a1 s0 = some res) : XMet0 l yX17_at cX17_at 5 (some .long) (d + 5) true x0 D [.ref (ad x0 a0), .ref (ad x0 a1)] s0 2 res := by
  refine XMet0.ofn [(0, .ref (ad x0 a0)), (1, .ref (ad x0 a1))] "VerbAtDusk$Chain" "at" rfl rfl (plainFor_of_name (by decide)) (Nat.le_of_ble_eq_true rfl) rfl ?_
  unfold x17_at at h
  generalize nC s0 = cN
  generalize nS s0 = sN
  obtain ⟨ga1, h⟩ := gd_e h
  refine gx_aload_n 0 0 dX17_at_0 rfl ?_
  obtain ⟨g2, h⟩ := gd_e h
  obtain ⟨g3, h⟩ := gd_e h
  refine gx_get (t := 14) (k := 0) (v := .ref (ad x0 (s0 a0 0))) 1 cw14 (by decide) g2 q1116 same_f (rf_ne g3) dX17_at_1 ?_
  refine gx_iconst 4 dX17_at_4 ?_
  obtain ⟨g5, h⟩ := gd_e h
  obtain ⟨z4, ez4, h⟩ := opt_e h
  refine gx_callF (As := [J 0]) (rest := []) (st' := [.ref (ad x0 z4.1)]) 5 1 cw21 rfl g5  (mj2_get ez4 l) (lw_app (lw_in4 q1410 q863 q865 q151) (lw_meth q867)) (by decide) (by decide +kernel) (by omega) rfl rfl (Nat.le_of_ble_eq_true rfl) dX17_at_5 rfl ?_
  obtain ⟨g6, h⟩ := gd_e h
  refine gx_castAt 10 g6 q1411 dX17_at_10 ?_
  refine gx_aload_n 13 1 dX17_at_13 rfl ?_
  obtain ⟨z7, ez7, h⟩ := opt_e h
  refine gx_callAt (rest := []) (st' := [Lg z7.1]) 14 (hrc _ _ _ _ ez7) q1412 (by omega) rfl (Nat.le_of_ble_eq_true rfl) dX17_at_14 rfl ?_
  obtain ⟨x2_8, ex2_8, h⟩ := bnd_e h
  refine gx_lstore_n 17 [(2, Lg x2_8), (0, .ref (ad x0 a0)), (1, .ref (ad x0 a1))] dX17_at_17 (by decide) ex2_8 rfl ?_
  refine gx_iconst 18 dX17_at_18 ?_
  obtain ⟨x4_9, ex4_9, h⟩ := bnd_e h
  refine gx_istore 19 [(4, J x4_9), (2, Lg x2_8), (0, .ref (ad x0 a0)), (1, .ref (ad x0 a1))] dX17_at_19 (by decide) ex4_9 rfl ?_
  refine gx_sub [2, 3, 1, 0] rfl ?_
  refine wx17_at_L21 hrc ga1 (fun x2_34 s35 h => ?_) FU _ _ _ h
  · refine gx_lload_n 76 0 dX17_at_76 rfl ?_
    exact gx_lret 77 dX17_at_77 (rt h)
noncomputable def x_at_D (rc : Int → Int → XS → Option (Int × XS)) (ce mo : Int) (τ : XS) : Option (Int × XS) :=
  if tg true τ ce = 14 then x17_at rc ce mo τ else if tg true τ ce = 15 then x18_at rc ce mo τ else if tg true τ ce = 16 then x19_at ce mo τ else if tg true τ ce = 17 then x20_at ce mo τ else if tg true τ ce = 18 then x21_at rc ce mo τ else none
noncomputable def x_at : Nat → Int → Int → XS → Option (Int × XS)
  | 0, _, _, _ => none
  | n + 1, ce, mo, τ => x_at_D (x_at n) ce mo τ
theorem mx_at_n {l : Launch} {x0 : Nat} {D : XD} : ∀ (n : Nat) (ce mo : Int) (τ : XS) (z : Int × XS), x_at n ce mo τ = some z → AtM l x0 D (7 * n + 3) ce mo τ z := by
  intro n
  induction n with
  | zero => intro ce mo τ z h; cases h
  | succ n ih =>
    intro ce mo τ z h
    rw [x_at, x_at_D] at h
    by_cases c0 : tg true τ ce = 14
    · replace h := if_t h c0
      exact Or.inl ⟨c0, _, by omega, mx17_at ih h⟩
    replace h := if_f h c0
    by_cases c1 : tg true τ ce = 15
    · replace h := if_t h c1
      exact Or.inr (Or.inl ⟨c1, _, by omega, mx18_at ih h⟩)
    replace h := if_f h c1
    by_cases c2 : tg true τ ce = 16
    · replace h := if_t h c2
      exact Or.inr (Or.inr (Or.inl ⟨c2, _, by omega, mx19_at h l⟩))
    replace h := if_f h c2
    by_cases c3 : tg true τ ce = 17
    · replace h := if_t h c3
      exact Or.inr (Or.inr (Or.inr (Or.inl ⟨c3, _, by omega, mx20_at h l⟩)))
    replace h := if_f h c3
    by_cases c4 : tg true τ ce = 18
    · replace h := if_t h c4
      exact Or.inr (Or.inr (Or.inr (Or.inr (⟨c4, _, by omega, mx21_at ih h⟩))))
    replace h := if_f h c4
    cases h
theorem mx_at {x0 : Nat} {D : XD} {ce mo : Int} {τ : XS} {z : Int × XS} (h : x_at 64 ce mo τ = some z) (l : Launch) : AtM l x0 D 451 ce mo τ z := mx_at_n 64 _ _ _ _ h
/-! VerbAtDusk$All.holds -/
noncomputable def x15_holds (a0 : Int) (a1 : Int) (s0 : XS) : Option (Int × XS) :=
  gd (isMo a1) <|
  some (1, s0)
theorem mx15_holds {x0 : Nat} {D : XD} {a0 : Int} {a1 : Int} {s0 : XS} {res : Int × XS} (h : x15_holds a0 a1 s0 = some res) (l : Launch) : XMet0 l yX15_holds cX15_holds 2 (some .boolean) 1 true x0 D [.ref (ad x0 a0), .ref (ad x0 a1)] s0 1 res := by
  refine XMet0.ofn [(0, .ref (ad x0 a0)), (1, .ref (ad x0 a1))] "VerbAtDusk$All" "holds" rfl rfl (plainFor_of_name (by decide)) (Nat.le_of_ble_eq_true rfl) rfl ?_
  unfold x15_holds at h
  generalize nC s0 = cN
  generalize nS s0 = sN
  obtain ⟨ga1, h⟩ := gd_e h
  refine gx_iconst 0 dX15_holds_0 ?_
  exact gx_zret 1 dX15_holds_1 (by decide) (rt h)
/-! VerbAtDusk$Than.holds -/
noncomputable def x22_holds (a0 : Int) (a1 : Int) (s0 : XS) : Option (Int × XS) :=
  gd (isMo a1) <|
  gd (tg true s0 a0 = 19) <|
  gd (¬ (s0 a0 0) = -1) <|
  Option.bind (x_at 64 (s0 a0 0) a1 s0) fun z4 =>
  bnd z4.1 fun x2_5 =>
  gd (tg true z4.2 a0 = 19) <|
  gd (¬ (z4.2 a0 1) = -1) <|
  Option.bind (x_at 64 (z4.2 a0 1) a1 z4.2) fun z8 =>
  bnd z8.1 fun x4_9 =>
  gd (tg true z8.2 a0 = 19) <|
  if i32 (z8.2 a0 2) = i32 60 then
    if i64 x4_9 ≤ i64 x2_5 then
      some (0, z8.2)
    else
      some (1, z8.2)
  else
    gd (tg true z8.2 a0 = 19) <|
    if i32 (z8.2 a0 2) = i32 62 then
      if i64 x2_5 ≤ i64 x4_9 then
        some (0, z8.2)
      else
        some (1, z8.2)
    else
      if i64 x2_5 = i64 x4_9 then
        some (1, z8.2)
      else
        some (0, z8.2)
theorem mx22_holds {x0 : Nat} {D : XD} {a0 : Int} {a1 : Int} {s0 : XS} {res : Int × XS} (h : x22_holds a0 a1 s0 = some res) (l : Launch) : XMet0 l yX22_holds cX22_holds 6 (some .boolean) 452 true x0 D [.ref (ad x0 a0), .ref (ad x0 a1)] s0 1 res := by
  refine XMet0.ofn [(0, .ref (ad x0 a0)), (1, .ref (ad x0 a1))] "VerbAtDusk$Than" "holds" rfl rfl (plainFor_of_name (by decide)) (Nat.le_of_ble_eq_true rfl) rfl ?_
  unfold x22_holds at h
  generalize nC s0 = cN
  generalize nS s0 = sN
  obtain ⟨ga1, h⟩ := gd_e h
  refine gx_aload_n 0 0 dX22_holds_0 rfl ?_
  obtain ⟨g2, h⟩ := gd_e h
  obtain ⟨g3, h⟩ := gd_e h
  refine gx_get (t := 19) (k := 0) (v := .ref (ad x0 (s0 a0 0))) 1 cw19 (by decide) g2 q1268 same_f (rf_ne g3) dX22_holds_1 ?_
  refine gx_aload_n 4 1 dX22_holds_4 rfl ?_
  obtain ⟨z4, ez4, h⟩ := opt_e h
  refine gx_callAt (rest := []) (st' := [Lg z4.1]) 5 (mx_at ez4 l) q1389 (by decide) rfl (Nat.le_of_ble_eq_true rfl) dX22_holds_5 rfl ?_
  obtain ⟨x2_5, ex2_5, h⟩ := bnd_e h
  refine gx_lstore_n 8 [(2, Lg x2_5), (0, .ref (ad x0 a0)), (1, .ref (ad x0 a1))] dX22_holds_8 (by decide) ex2_5 rfl ?_
  refine gx_aload_n 9 1 dX22_holds_9 rfl ?_
  obtain ⟨g6, h⟩ := gd_e h
  obtain ⟨g7, h⟩ := gd_e h
  refine gx_get (t := 19) (k := 1) (v := .ref (ad x0 (z4.2 a0 1))) 10 cw19 (by decide) g6 q1269 same_f (rf_ne g7) dX22_holds_10 ?_
  refine gx_aload_n 13 2 dX22_holds_13 rfl ?_
  obtain ⟨z8, ez8, h⟩ := opt_e h
  refine gx_callAt (rest := []) (st' := [Lg z8.1]) 14 (mx_at ez8 l) q1389 (by decide) rfl (Nat.le_of_ble_eq_true rfl) dX22_holds_14 rfl ?_
  obtain ⟨x4_9, ex4_9, h⟩ := bnd_e h
  refine gx_lstore 17 [(4, Lg x4_9), (2, Lg x2_5), (0, .ref (ad x0 a0)), (1, .ref (ad x0 a1))] dX22_holds_17 (by decide) ex4_9 rfl ?_
  refine gx_aload_n 19 2 dX22_holds_19 rfl ?_
  obtain ⟨g10, h⟩ := gd_e h
  refine gx_get (t := 19) (k := 2) (v := J (z8.2 a0 2)) 20 cw19 (by decide) g10 q1270 same_f rfl dX22_holds_20 ?_
  refine gx_bipush 23 dX22_holds_23 (by decide) ?_
  refine gx_icmp_ne 25 43 dX22_holds_25 (by decide) (fun c11 => ?_) (fun c11 => ?_)
  · replace h := if_f h c11
    refine gx_aload_n 43 2 dX22_holds_43 rfl ?_
    obtain ⟨g12, h⟩ := gd_e h
    refine gx_get (t := 19) (k := 2) (v := J (z8.2 a0 2)) 44 cw19 (by decide) g12 q1270 same_f rfl dX22_holds_44 ?_
    refine gx_bipush 47 dX22_holds_47 (by decide) ?_
    refine gx_icmp_ne 49 67 dX22_holds_49 (by decide) (fun c13 => ?_) (fun c13 => ?_)
    · replace h := if_f h c13
      refine gx_lload_n 67 1 dX22_holds_67 rfl ?_
      refine gx_lload 68 0 dX22_holds_68 rfl ?_
      refine gx_lcmp_ne 70 78 dX22_holds_70 dX22_holds_71 (by decide) (fun c14 => ?_) (fun c14 => ?_)
      · replace h := if_f h c14
        refine gx_iconst 78 dX22_holds_78 ?_
        exact gx_zret 79 dX22_holds_79 (by decide) (rt h)
      · replace h := if_t h c14
        refine gx_iconst 74 dX22_holds_74 ?_
        refine gx_goto 75 79 dX22_holds_75 (by decide) ?_
        exact gx_zret 79 dX22_holds_79 (by decide) (rt h)
    · replace h := if_t h c13
      refine gx_lload_n 52 1 dX22_holds_52 rfl ?_
      refine gx_lload 53 0 dX22_holds_53 rfl ?_
      refine gx_lcmp_le 55 63 dX22_holds_55 dX22_holds_56 (by decide) (fun c15 => ?_) (fun c15 => ?_)
      · replace h := if_t h c15
        refine gx_iconst 63 dX22_holds_63 ?_
        refine gx_goto 64 79 dX22_holds_64 (by decide) ?_
        exact gx_zret 79 dX22_holds_79 (by decide) (rt h)
      · replace h := if_f h c15
        refine gx_iconst 59 dX22_holds_59 ?_
        refine gx_goto 60 79 dX22_holds_60 (by decide) ?_
        exact gx_zret 79 dX22_holds_79 (by decide) (rt h)
  · replace h := if_t h c11
    refine gx_lload_n 28 1 dX22_holds_28 rfl ?_
    refine gx_lload 29 0 dX22_holds_29 rfl ?_
    refine gx_lcmp_ge 31 39 dX22_holds_31 dX22_holds_32 (by decide) (fun c16 => ?_) (fun c16 => ?_)
    · replace h := if_t h c16
      refine gx_iconst 39 dX22_holds_39 ?_
      refine gx_goto 40 79 dX22_holds_40 (by decide) ?_
      exact gx_zret 79 dX22_holds_79 (by decide) (rt h)
    · replace h := if_f h c16
      refine gx_iconst 35 dX22_holds_35 ?_
      refine gx_goto 36 79 dX22_holds_36 (by decide) ?_
      exact gx_zret 79 dX22_holds_79 (by decide) (rt h)
noncomputable def HoM (l : Launch) (x0 : Nat) (D : XD) (d : Nat) (ce mo : Int) (τ : XS) (z : Int × XS) : Prop := (tg true τ ce = 11 ∧ ∃ d1, d1 ≤ d ∧ XMet0 l yX13_holds cX13_holds 3 (some .boolean) d1 true x0 D [.ref (ad x0 ce), .ref (ad x0 mo)] τ 1 z) ∨ (tg true τ ce = 12 ∧ ∃ d1, d1 ≤ d ∧ XMet0 l yX14_holds cX14_holds 2 (some .boolean) d1 true x0 D [.ref (ad x0 ce), .ref (ad x0 mo)] τ 1 z) ∨ (tg true τ ce = 13 ∧ ∃ d1, d1 ≤ d ∧ XMet0 l yX15_holds cX15_holds 2 (some .boolean) d1 true x0 D [.ref (ad x0 ce), .ref (ad x0 mo)] τ 1 z) ∨ (tg true τ ce = 19 ∧ ∃ d1, d1 ≤ d ∧ XMet0 l yX22_holds cX22_holds 6 (some .boolean) d1 true x0 D [.ref (ad x0 ce), .ref (ad x0 mo)] τ 1 z)
theorem gx_callHo {l : Launch} {nL x0 : Nat} {D : XD} {tv dp c0 s0 : Nat} {res : RX} {σ : XS} {lv : List (Nat × Value)} {st : List Value} {cc : ByteArray} {own mn : String} {xt : List ExceptionTableEntry} {ret : Option FieldType} {d idx : Nat} {ce mo : Int} {rest st' : List Value} {z : Int × XS} (pc : Nat) (hM : HoM l x0 D d ce mo σ z) (hl : Cond.methodLink own idx (⟨"VerbAtDusk$Test", "holds", "(LVerbAtDusk$Moment;)Z"⟩ : MethodName) ∈ lw_all) (hR : d + 1 ≤ dp) (hst : st = [Value.ref (ad x0 mo)].reverse ++ .ref (ad x0 ce) :: rest) (hW : (rest.map fun v => v.category).sum ≤ 8) (hd : decode cc pc = .ok (.invokevirtual idx, 3)) (hst' : (tvx x0 1 z.1).toList ++ rest = st') (k : GX l cc own nL ret mn xt x0 D true tv dp c0 s0 res z.2 (pc + 3) lv st') : GX l cc own nL ret mn xt x0 D true tv dp c0 s0 res σ pc lv st := by
  rcases hM with ⟨ht, d1, hd1, hM⟩ | ⟨ht, d1, hd1, hM⟩ | ⟨ht, d1, hd1, hM⟩ | ⟨ht, d1, hd1, hM⟩
  · exact gx_callA (x := (⟨"VerbAtDusk$Test", "holds", "(LVerbAtDusk$Moment;)Z"⟩ : MethodName)) (y := yX13_holds) (As := [.ref (ad x0 mo)]) pc 1 cw11 ht hM (lw_app (lw_in5 hl q1371 q1375 q1376 q175) (lw_meth q1377)) q1370 (by decide +kernel) (by omega) rfl hst hW hd hst' k
  · exact gx_callA (x := (⟨"VerbAtDusk$Test", "holds", "(LVerbAtDusk$Moment;)Z"⟩ : MethodName)) (y := yX14_holds) (As := [.ref (ad x0 mo)]) pc 1 cw12 ht hM (lw_app (lw_in5 hl q1371 q1453 q1384 q176) (lw_meth q1385)) q1370 (by decide +kernel) (by omega) rfl hst hW hd hst' k
  · exact gx_callA (x := (⟨"VerbAtDusk$Test", "holds", "(LVerbAtDusk$Moment;)Z"⟩ : MethodName)) (y := yX15_holds) (As := [.ref (ad x0 mo)]) pc 1 cw13 ht hM (lw_app (lw_in5 hl q1371 q1372 q1373 q177) (lw_meth q1374)) q1370 (by decide +kernel) (by omega) rfl hst hW hd hst' k
  · exact gx_callA (x := (⟨"VerbAtDusk$Test", "holds", "(LVerbAtDusk$Moment;)Z"⟩ : MethodName)) (y := yX22_holds) (As := [.ref (ad x0 mo)]) pc 1 cw19 ht hM (lw_app (lw_in5 hl q1371 q1454 q1387 q186) (lw_meth q1388)) q1370 (by decide +kernel) (by omega) rfl hst hW hd hst' k
/-! VerbAtDusk$Not.holds -/
noncomputable def x14_holds (rc : Int → Int → XS → Option (Int × XS)) (a0 : Int) (a1 : Int) (s0 : XS) : Option (Int × XS) :=
  gd (isMo a1) <|
  gd (tg true s0 a0 = 12) <|
  gd (¬ (s0 a0 0) = -1) <|
  Option.bind (rc (s0 a0 0) a1 s0) fun z4 =>
  if i32 z4.1 = 0 then
    some (1, z4.2)
  else
    some (0, z4.2)
theorem mx14_holds {rc : Int → Int → XS → Option (Int × XS)} {d : Nat} {x0 : Nat} {D : XD} {a0 : Int} {a1 : Int} {s0 : XS} {res : Int × XS} {l : Launch} (hrc : ∀ (c_ v_ : Int) (t_ : XS) (z_ : Int × XS), rc c_ v_ t_ = some z_ → HoM l x0 D d c_ v_ t_ z_) (h : x14_holds rc a0 a1 s0 = some res) : XMet0 l yX14_holds cX14_holds 2 (some .boolean) (d + 1) true x0 D [.ref (ad x0 a0), .ref (ad x0 a1)] s0 1 res := by
  refine XMet0.ofn [(0, .ref (ad x0 a0)), (1, .ref (ad x0 a1))] "VerbAtDusk$Not" "holds" rfl rfl (plainFor_of_name (by decide)) (Nat.le_of_ble_eq_true rfl) rfl ?_
  unfold x14_holds at h
  generalize nC s0 = cN
  generalize nS s0 = sN
  obtain ⟨ga1, h⟩ := gd_e h
  refine gx_aload_n 0 0 dX14_holds_0 rfl ?_
  obtain ⟨g2, h⟩ := gd_e h
  obtain ⟨g3, h⟩ := gd_e h
  refine gx_get (t := 12) (k := 0) (v := .ref (ad x0 (s0 a0 0))) 1 cw12 (by decide) g2 q1066 same_f (rf_ne g3) dX14_holds_1 ?_
  refine gx_aload_n 4 1 dX14_holds_4 rfl ?_
  obtain ⟨z4, ez4, h⟩ := opt_e h
  refine gx_callHo (rest := []) (st' := [J z4.1]) 5 (hrc _ _ _ _ ez4) q1386 (by omega) rfl (Nat.le_of_ble_eq_true rfl) dX14_holds_5 rfl ?_
  refine gx_if_ne 8 15 dX14_holds_8 (by decide) (fun c5 => ?_) (fun c5 => ?_)
  · replace h := if_f h c5
    refine gx_iconst 15 dX14_holds_15 ?_
    exact gx_zret 16 dX14_holds_16 (by decide) (rt h)
  · replace h := if_t h c5
    refine gx_iconst 11 dX14_holds_11 ?_
    refine gx_goto 12 16 dX14_holds_12 (by decide) ?_
    exact gx_zret 16 dX14_holds_16 (by decide) (rt h)
/-! VerbAtDusk$Facts.holds -/
noncomputable def x13_holds_L2 (rc : Int → Int → XS → Option (Int × XS)) (a0 : Int) (a1 : Int) (k58 : XS → Option (Int × XS)) (k39 : XS → Option (Int × XS)) : Nat → Int → XS → Option (Int × XS)
  | 0, _, _ => none
  | n + 1, x2_3, s4 =>
    gd (tg true s4 a0 = 11) <|
    gd (¬ (s4 a0 0) = -1) <|
    gd (tg true s4 (s4 a0 0) = 21) <|
    Option.bind (j2_size true (s4 a0 0) s4) fun z9 =>
    if i32 z9.1 ≤ i32 x2_3 then
      k58 z9.2
    else
      gd (tg true z9.2 a0 = 11) <|
      gd (¬ (z9.2 a0 0) = -1) <|
      gd (tg true z9.2 (z9.2 a0 0) = 21) <|
      Option.bind (j2_get true (z9.2 a0 0) x2_3 z9.2) fun z14 =>
      gd (isHo (tg true z14.2 z14.1)) <|
      Option.bind (rc z14.1 a1 z14.2) fun z17 =>
      gd (tg true z17.2 a0 = 11) <|
      if i32 z17.1 = i32 (z17.2 a0 1) then
        bnd (x2_3 + 1) fun x2_20 =>
        x13_holds_L2 rc a0 a1 k58 k39 n x2_20 z17.2
      else
        k39 z17.2
noncomputable def x13_holds (rc : Int → Int → XS → Option (Int × XS)) (a0 : Int) (a1 : Int) (s0 : XS) : Option (Int × XS) :=
  gd (isMo a1) <|
  bnd 0 fun x2_2 =>
  x13_holds_L2 rc a0 a1
    (fun (s21 : XS) =>
      gd (tg true s21 a0 = 11) <|
      gd (bz (s21 a0 1)) <|
      some ((s21 a0 1), s21))
    (fun (s24 : XS) =>
      gd (tg true s24 a0 = 11) <|
      if i32 (s24 a0 1) = 0 then
        some (1, s24)
      else
        some (0, s24))
    FU x2_2 s0
theorem wx13_holds_L2 {l : Launch} {x0 : Nat} {D : XD} {cN sN : Nat} {res : Int × XS} {rc : Int → Int → XS → Option (Int × XS)} {d : Nat} (hrc : ∀ (c_ v_ : Int) (t_ : XS) (z_ : Int × XS), rc c_ v_ t_ = some z_ → HoM l x0 D d c_ v_ t_ z_) {a0 : Int} {a1 : Int} (ga1 : isMo a1) {k58 : XS → Option (Int × XS)} {k39 : XS → Option (Int × XS)} (hk58 : ∀ (s5 : XS), k58 s5 = some res → GX l cX13_holds "VerbAtDusk$Facts" 3 (some .boolean) "holds" [] x0 D true 1 (d + 4) cN sN (0, res) s5 58 [(0, .ref (ad x0 a0))] []) (hk39 : ∀ (s6 : XS), k39 s6 = some res → GX l cX13_holds "VerbAtDusk$Facts" 3 (some .boolean) "holds" [] x0 D true 1 (d + 4) cN sN (0, res) s6 39 [(0, .ref (ad x0 a0))] []) : ∀ (n : Nat) (x2_3 : Int) (s4 : XS), x13_holds_L2 rc a0 a1 k58 k39 n x2_3 s4 = some res → GX l cX13_holds "VerbAtDusk$Facts" 3 (some .boolean) "holds" [] x0 D true 1 (d + 4) cN sN (0, res) s4 2 [(0, .ref (ad x0 a0)), (1, .ref (ad x0 a1)), (2, J x2_3)] [] := by
  intro n
  induction n with
  | zero =>
    intro x2_3 s4 h
    cases h
  | succ n ih =>
    intro x2_3 s4 h
    rw [x13_holds_L2] at h
    refine gx_iload_n 2 2 dX13_holds_2 rfl ?_
    refine gx_aload_n 3 0 dX13_holds_3 rfl ?_
    obtain ⟨g7, h⟩ := gd_e h
    obtain ⟨g8, h⟩ := gd_e h
    refine gx_get (t := 11) (k := 0) (v := .ref (ad x0 (s4 a0 0))) 4 cw11 (by decide) g7 q1035 same_f (rf_ne g8) dX13_holds_4 ?_
    obtain ⟨g10, h⟩ := gd_e h
    obtain ⟨z9, ez9, h⟩ := opt_e h
    refine gx_callF (As := []) (rest := [J x2_3]) (st' := [J z9.1, J x2_3]) 7 0 cw21 rfl g10  (mj2_size ez9 l) (lw_app (lw_in4 q1379 q823 q825 q151) (lw_meth q827)) (by decide) (by decide +kernel) (by omega) rfl rfl (Nat.le_of_ble_eq_true rfl) dX13_holds_7 rfl ?_
    refine gx_icmp_ge 12 58 dX13_holds_12 (by decide) (fun c11 => ?_) (fun c11 => ?_)
    · replace h := if_t h c11
      refine gx_sub [0] rfl ?_
      exact hk58 _ h
    · replace h := if_f h c11
      refine gx_aload_n 15 0 dX13_holds_15 rfl ?_
      obtain ⟨g12, h⟩ := gd_e h
      obtain ⟨g13, h⟩ := gd_e h
      refine gx_get (t := 11) (k := 0) (v := .ref (ad x0 (z9.2 a0 0))) 16 cw11 (by decide) g12 q1035 same_f (rf_ne g13) dX13_holds_16 ?_
      refine gx_iload_n 19 2 dX13_holds_19 rfl ?_
      obtain ⟨g15, h⟩ := gd_e h
      obtain ⟨z14, ez14, h⟩ := opt_e h
      refine gx_callF (As := [J x2_3]) (rest := []) (st' := [.ref (ad x0 z14.1)]) 20 1 cw21 rfl g15  (mj2_get ez14 l) (lw_app (lw_in4 q1381 q863 q865 q151) (lw_meth q867)) (by decide) (by decide +kernel) (by omega) rfl rfl (Nat.le_of_ble_eq_true rfl) dX13_holds_20 rfl ?_
      obtain ⟨g16, h⟩ := gd_e h
      refine gx_castHo 25 g16 q1382 dX13_holds_25 ?_
      refine gx_aload_n 28 1 dX13_holds_28 rfl ?_
      obtain ⟨z17, ez17, h⟩ := opt_e h
      refine gx_callHo (rest := []) (st' := [J z17.1]) 29 (hrc _ _ _ _ ez17) q1383 (by omega) rfl (Nat.le_of_ble_eq_true rfl) dX13_holds_29 rfl ?_
      refine gx_aload_n 32 0 dX13_holds_32 rfl ?_
      obtain ⟨g18, h⟩ := gd_e h
      refine gx_get (t := 11) (k := 1) (v := J (z17.2 a0 1)) 33 cw11 (by decide) g18 q1037 same_f rfl dX13_holds_33 ?_
      refine gx_icmp_eq 36 52 dX13_holds_36 (by decide) (fun c19 => ?_) (fun c19 => ?_)
      · replace h := if_t h c19
        obtain ⟨x2_20, ex2_20, h⟩ := bnd_e h
        refine gx_iinc 52 2 [(2, J x2_20), (0, .ref (ad x0 a0)), (1, .ref (ad x0 a1))] dX13_holds_52 rfl ex2_20 (by decide) rfl ?_
        refine gx_goto 55 2 dX13_holds_55 (by decide) ?_
        refine gx_sub [1, 2, 0] rfl ?_
        exact ih _ _ h
      · replace h := if_f h c19
        refine gx_sub [0] rfl ?_
        exact hk39 _ h
theorem mx13_holds {rc : Int → Int → XS → Option (Int × XS)} {d : Nat} {x0 : Nat} {D : XD} {a0 : Int} {a1 : Int} {s0 : XS} {res : Int × XS} {l : Launch} (hrc : ∀ (c_ v_ : Int) (t_ : XS) (z_ : Int × XS), rc c_ v_ t_ = some z_ → HoM l x0 D d c_ v_ t_ z_) (h : x13_holds rc a0 a1 s0 = some res) : XMet0 l yX13_holds cX13_holds 3 (some .boolean) (d + 4) true x0 D [.ref (ad x0 a0), .ref (ad x0 a1)] s0 1 res := by
  refine XMet0.ofn [(0, .ref (ad x0 a0)), (1, .ref (ad x0 a1))] "VerbAtDusk$Facts" "holds" rfl rfl (plainFor_of_name (by decide)) (Nat.le_of_ble_eq_true rfl) rfl ?_
  unfold x13_holds at h
  generalize nC s0 = cN
  generalize nS s0 = sN
  obtain ⟨ga1, h⟩ := gd_e h
  refine gx_iconst 0 dX13_holds_0 ?_
  obtain ⟨x2_2, ex2_2, h⟩ := bnd_e h
  refine gx_istore_n 1 [(2, J x2_2), (0, .ref (ad x0 a0)), (1, .ref (ad x0 a1))] dX13_holds_1 (by decide) ex2_2 rfl ?_
  refine gx_sub [1, 2, 0] rfl ?_
  refine wx13_holds_L2 hrc ga1 (fun s21 h => ?_) (fun s24 h => ?_) FU _ _ h
  · refine gx_aload_n 58 0 dX13_holds_58 rfl ?_
    obtain ⟨g22, h⟩ := gd_e h
    refine gx_get (t := 11) (k := 1) (v := J (s21 a0 1)) 59 cw11 (by decide) g22 q1037 same_f rfl dX13_holds_59 ?_
    obtain ⟨g23, h⟩ := gd_e h
    exact gx_zret 62 dX13_holds_62 g23 (rt h)
  · refine gx_aload_n 39 0 dX13_holds_39 rfl ?_
    obtain ⟨g25, h⟩ := gd_e h
    refine gx_get (t := 11) (k := 1) (v := J (s24 a0 1)) 40 cw11 (by decide) g25 q1037 same_f rfl dX13_holds_40 ?_
    refine gx_if_ne 43 50 dX13_holds_43 (by decide) (fun c26 => ?_) (fun c26 => ?_)
    · replace h := if_f h c26
      refine gx_iconst 50 dX13_holds_50 ?_
      exact gx_zret 51 dX13_holds_51 (by decide) (rt h)
    · replace h := if_t h c26
      refine gx_iconst 46 dX13_holds_46 ?_
      refine gx_goto 47 51 dX13_holds_47 (by decide) ?_
      exact gx_zret 51 dX13_holds_51 (by decide) (rt h)
noncomputable def x_ho_D (rc : Int → Int → XS → Option (Int × XS)) (ce mo : Int) (τ : XS) : Option (Int × XS) :=
  if tg true τ ce = 11 then x13_holds rc ce mo τ else if tg true τ ce = 12 then x14_holds rc ce mo τ else if tg true τ ce = 13 then x15_holds ce mo τ else if tg true τ ce = 19 then x22_holds ce mo τ else none
noncomputable def x_ho : Nat → Int → Int → XS → Option (Int × XS)
  | 0, _, _, _ => none
  | n + 1, ce, mo, τ => x_ho_D (x_ho n) ce mo τ
theorem mx_ho_n {l : Launch} {x0 : Nat} {D : XD} : ∀ (n : Nat) (ce mo : Int) (τ : XS) (z : Int × XS), x_ho n ce mo τ = some z → HoM l x0 D (4 * n + 452) ce mo τ z := by
  intro n
  induction n with
  | zero => intro ce mo τ z h; cases h
  | succ n ih =>
    intro ce mo τ z h
    rw [x_ho, x_ho_D] at h
    by_cases c0 : tg true τ ce = 11
    · replace h := if_t h c0
      exact Or.inl ⟨c0, _, by omega, mx13_holds ih h⟩
    replace h := if_f h c0
    by_cases c1 : tg true τ ce = 12
    · replace h := if_t h c1
      exact Or.inr (Or.inl ⟨c1, _, by omega, mx14_holds ih h⟩)
    replace h := if_f h c1
    by_cases c2 : tg true τ ce = 13
    · replace h := if_t h c2
      exact Or.inr (Or.inr (Or.inl ⟨c2, _, by omega, mx15_holds h l⟩))
    replace h := if_f h c2
    by_cases c3 : tg true τ ce = 19
    · replace h := if_t h c3
      exact Or.inr (Or.inr (Or.inr (⟨c3, _, by omega, mx22_holds h l⟩)))
    replace h := if_f h c3
    cases h
theorem mx_ho {x0 : Nat} {D : XD} {ce mo : Int} {τ : XS} {z : Int × XS} (h : x_ho 64 ce mo τ = some z) (l : Launch) : HoM l x0 D 708 ce mo τ z := mx_ho_n 64 _ _ _ _ h
/-! VerbAtDusk$State.can -/
noncomputable def x7_can (a0 : Int) (a1 : Int) (a2 : Int) (s0 : XS) : Option (Int × XS) :=
  gd (isSt a0) <|
  gd (¬ (s0 0 0) = -1) <|
  gd (tg true s0 (s0 0 0) = 2) <|
  if (s0 (s0 0 0) 6) = -1 then
    some (1, s0)
  else
    Option.bind (x7_asks a0 a1 a2 s0) fun z6 =>
    gd (¬ (z6.2 0 0) = -1) <|
    gd (tg true z6.2 (z6.2 0 0) = 2) <|
    gd (¬ (z6.2 (z6.2 0 0) 6) = -1) <|
    Option.bind (x_ho 64 (z6.2 (z6.2 0 0) 6) 9 z6.2) fun z10 =>
    gd (bz z10.1) <|
    some (z10.1, z10.2)
theorem mx7_can {x0 : Nat} {D : XD} {a0 : Int} {a1 : Int} {a2 : Int} {s0 : XS} {res : Int × XS} (h : x7_can a0 a1 a2 s0 = some res) (l : Launch) : XMet0 l yX7_can cX7_can 3 (some .boolean) 709 true x0 D [.ref (ad x0 a0), J a1, J a2] s0 1 res := by
  refine XMet0.ofn [(0, .ref (ad x0 a0)), (1, J a1), (2, J a2)] "VerbAtDusk$State" "can" rfl rfl (plainFor_of_name (by decide)) (Nat.le_of_ble_eq_true rfl) rfl ?_
  unfold x7_can at h
  generalize nC s0 = cN
  generalize nS s0 = sN
  obtain ⟨ga0, h⟩ := gd_e h
  refine gx_aload_n 0 0 dX7_can_0 rfl ?_
  refine gx_get (t := 8) (k := 9) (v := .ref (ad x0 0)) 1 cw8 (by decide) (tgs (st_0 ga0) (by decide)) q493 same_f (rf_ne (nes (show stc 0 = (1, 0) by decide) (by decide))) dX7_can_1 ?_
  obtain ⟨g3, h⟩ := gd_e h
  refine gx_getN (t := 1) (k := 0) (v := .ref (ad x0 (s0 0 0))) 4 cw1 (by decide) (tgs (show stc 0 = (1, 0) by decide) (by decide)) q517 same_f (rf_ne g3) dX7_can_4 ?_
  obtain ⟨g4, h⟩ := gd_e h
  refine gx_gifnonnullN (t := 2) (k := 6) 7 15 cw2 (by decide) g4 q248 same_f rfl dX7_can_7 dX7_can_10 (by decide) (fun c5 => ?_) (fun c5 => ?_)
  · replace h := if_f h c5
    refine gx_aload_n 15 0 dX7_can_15 rfl ?_
    refine gx_iload_n 16 1 dX7_can_16 rfl ?_
    refine gx_iload_n 17 2 dX7_can_17 rfl ?_
    obtain ⟨z6, ez6, h⟩ := opt_e h
    refine gx_callV (As := [J a1, J a2]) (rest := []) (st' := []) 18 2 cw8 (tgs (st_0 ga0) (by decide)) (mx7_asks ez6 l) (lw_V q1364 q1366 qs37 q160 q1367) (by decide +kernel) (by decide) rfl rfl (Nat.le_of_ble_eq_true rfl) dX7_can_18 rfl ?_
    refine gx_aload_n 21 0 dX7_can_21 rfl ?_
    refine gx_get (t := 8) (k := 9) (v := .ref (ad x0 0)) 22 cw8 (by decide) (tgs (st_0 ga0) (by decide)) q493 same_f (rf_ne (nes (show stc 0 = (1, 0) by decide) (by decide))) dX7_can_22 ?_
    obtain ⟨g7, h⟩ := gd_e h
    refine gx_getN (t := 1) (k := 0) (v := .ref (ad x0 (z6.2 0 0))) 25 cw1 (by decide) (tgs (show stc 0 = (1, 0) by decide) (by decide)) q517 same_f (rf_ne g7) dX7_can_25 ?_
    obtain ⟨g8, h⟩ := gd_e h
    obtain ⟨g9, h⟩ := gd_e h
    refine gx_getN (t := 2) (k := 6) (v := .ref (ad x0 (z6.2 (z6.2 0 0) 6))) 28 cw2 (by decide) g8 q248 same_f (rf_ne g9) dX7_can_28 ?_
    refine gx_aload_n 31 0 dX7_can_31 rfl ?_
    refine gx_get (t := 8) (k := 9) (v := .ref (ad x0 0)) 32 cw8 (by decide) (tgs (st_0 ga0) (by decide)) q493 same_f (rf_ne (nes (show stc 0 = (1, 0) by decide) (by decide))) dX7_can_32 ?_
    refine gx_getN (t := 1) (k := 6) (v := .ref (ad x0 9)) 35 cw1 (by decide) (tgs (show stc 0 = (1, 0) by decide) (by decide)) q526 same_f (rf_ne (nes (show stc 9 = (5, 0) by decide) (by decide))) dX7_can_35 ?_
    obtain ⟨z10, ez10, h⟩ := opt_e h
    refine gx_callHo (rest := []) (st' := [J z10.1]) 38 (mx_ho ez10 l) q1369 (by decide) rfl (Nat.le_of_ble_eq_true rfl) dX7_can_38 rfl ?_
    obtain ⟨g11, h⟩ := gd_e h
    exact gx_zret 41 dX7_can_41 g11 (rt h)
  · replace h := if_t h c5
    refine gx_iconst 13 dX7_can_13 ?_
    exact gx_zret 14 dX7_can_14 (by decide) (rt h)
/-! VerbAtDusk$State.tells -/
noncomputable def x7_tells_L19 (a0 : Int) (k48 : Int → Int → Int → XS → Option (Int × XS)) : Nat → Int → Int → Int → Int → XS → Option (Int × XS)
  | 0, _, _, _, _, _ => none
  | n + 1, x1_31, x2_32, x3_33, x4_34, s35 =>
    if i32 50 ≤ i32 x4_34 then
      k48 x1_31 x2_32 x3_33 s35
    else
      gd (ok 50 x4_34) <|
      gd (¬ (s35 (a0 + 12) (i32 x4_34)) = -1) <|
      gd (ok 50 (x4_34 - 1)) <|
      gd (tg true s35 (s35 (a0 + 12) (i32 x4_34)) = 101) <|
      gd (¬ (s35 (a0 + 12) (i32 x4_34)) = -1) <|
      bnd (ux s35 (a0 + 12) (i32 (x4_34 - 1)) (s35 (a0 + 12) (i32 x4_34))) fun s46 =>
      bnd (x4_34 + 1) fun x4_47 =>
      x7_tells_L19 a0 k48 n x1_31 x2_32 x3_33 x4_47 s46
noncomputable def x7_tells (a0 : Int) (a1 : Int) (a2 : Int) (s0 : XS) : Option (Int × XS) :=
  gd (isSt a0) <|
  bnd (fun (x1_3 : Int) (x2_4 : Int) (s5 : XS) =>
      gd (ok 50 (s5 a0 2)) <|
      gd (¬ (s5 (a0 + 12) (i32 (s5 a0 2))) = -1) <|
      gd (tg true s5 (s5 (a0 + 12) (i32 (s5 a0 2))) = 101) <|
      gd (0 ≤ (s5 (a0 + 12) (i32 (s5 a0 2))) ∧ ¬ (1438 ≤ (s5 (a0 + 12) (i32 (s5 a0 2))) ∧ (s5 (a0 + 12) (i32 (s5 a0 2))) < 1514)) <|
      gd (ok (ln true s5 (s5 (a0 + 12) (i32 (s5 a0 2)))) 0) <|
      bnd (ux s5 (s5 (a0 + 12) (i32 (s5 a0 2))) (i32 0) (s5 a0 0)) fun s11 =>
      gd (ok 50 (s11 a0 2)) <|
      gd (¬ (s11 (a0 + 12) (i32 (s11 a0 2))) = -1) <|
      gd (tg true s11 (s11 (a0 + 12) (i32 (s11 a0 2))) = 101) <|
      gd (0 ≤ (s11 (a0 + 12) (i32 (s11 a0 2))) ∧ ¬ (1438 ≤ (s11 (a0 + 12) (i32 (s11 a0 2))) ∧ (s11 (a0 + 12) (i32 (s11 a0 2))) < 1514)) <|
      gd (ok (ln true s11 (s11 (a0 + 12) (i32 (s11 a0 2)))) 1) <|
      bnd (ux s11 (s11 (a0 + 12) (i32 (s11 a0 2))) (i32 1) x1_3) fun s17 =>
      gd (ok 50 (s17 a0 2)) <|
      gd (¬ (s17 (a0 + 12) (i32 (s17 a0 2))) = -1) <|
      gd (tg true s17 (s17 (a0 + 12) (i32 (s17 a0 2))) = 101) <|
      gd (0 ≤ (s17 (a0 + 12) (i32 (s17 a0 2))) ∧ ¬ (1438 ≤ (s17 (a0 + 12) (i32 (s17 a0 2))) ∧ (s17 (a0 + 12) (i32 (s17 a0 2))) < 1514)) <|
      gd (ok (ln true s17 (s17 (a0 + 12) (i32 (s17 a0 2)))) 2) <|
      bnd (ux s17 (s17 (a0 + 12) (i32 (s17 a0 2))) (i32 2) x2_4) fun s23 =>
      bnd (ux s23 a0 2 ((s23 a0 2) + 1)) fun s24 =>
      some (0, s24)) fun j25 =>
  if i32 (s0 a0 2) = i32 50 then
    gd (ok 50 0) <|
    gd (¬ (s0 (a0 + 12) (i32 0)) = -1) <|
    bnd (s0 (a0 + 12) (i32 0)) fun x3_29 =>
    bnd 1 fun x4_30 =>
    x7_tells_L19 a0
      (fun (x1_48 : Int) (x2_49 : Int) (x3_50 : Int) (s51 : XS) =>
        gd (ok 50 49) <|
        gd (tg true s51 x3_50 = 101) <|
        gd (¬ x3_50 = -1) <|
        bnd (ux s51 (a0 + 12) (i32 49) x3_50) fun s55 =>
        bnd (ux s55 a0 2 ((s55 a0 2) - 1)) fun s56 =>
        j25 x1_48 x2_49 s56)
      FU a1 a2 x3_29 x4_30 s0
  else
    j25 a1 a2 s0
theorem wx7_tells_L19 {l : Launch} {x0 : Nat} {D : XD} {cN sN : Nat} {res : Int × XS} {a0 : Int} (ga0 : isSt a0) {k48 : Int → Int → Int → XS → Option (Int × XS)} (hk48 : ∀ (x1_36 : Int) (x2_37 : Int) (x3_38 : Int) (s39 : XS), k48 x1_36 x2_37 x3_38 s39 = some res → GX l cX7_tells "VerbAtDusk$State" 5 none "tells" [] x0 D true 0 1 cN sN (0, res) s39 48 [(0, .ref (ad x0 a0)), (1, J x1_36), (2, J x2_37), (3, .ref (ad x0 x3_38))] []) : ∀ (n : Nat) (x1_31 : Int) (x2_32 : Int) (x3_33 : Int) (x4_34 : Int) (s35 : XS), x7_tells_L19 a0 k48 n x1_31 x2_32 x3_33 x4_34 s35 = some res → GX l cX7_tells "VerbAtDusk$State" 5 none "tells" [] x0 D true 0 1 cN sN (0, res) s35 19 [(0, .ref (ad x0 a0)), (1, J x1_31), (2, J x2_32), (3, .ref (ad x0 x3_33)), (4, J x4_34)] [] := by
  intro n
  induction n with
  | zero =>
    intro x1_31 x2_32 x3_33 x4_34 s35 h
    cases h
  | succ n ih =>
    intro x1_31 x2_32 x3_33 x4_34 s35 h
    rw [x7_tells_L19] at h
    refine gx_iload 19 4 dX7_tells_19 rfl ?_
    refine gx_bipush 21 dX7_tells_21 (by decide) ?_
    refine gx_icmp_ge 23 48 dX7_tells_23 (by decide) (fun c40 => ?_) (fun c40 => ?_)
    · replace h := if_t h c40
      refine gx_sub [0, 1, 2, 3] rfl ?_
      exact hk48 _ _ _ _ h
    · replace h := if_f h c40
      refine gx_aload_n 26 0 dX7_tells_26 rfl ?_
      refine gx_get (t := 8) (k := 8) (v := .ref (ad x0 (a0 + 12))) 27 cw8 (by decide) (tgs (st_0 ga0) (by decide)) q491 same_f (rf_ne (nes (st_12 ga0) (by decide))) dX7_tells_27 ?_
      refine gx_iload 30 4 dX7_tells_30 rfl ?_
      refine gx_iconst 32 dX7_tells_32 ?_
      refine gx_isub 33 dX7_tells_33 ?_
      refine gx_aload_n 34 0 dX7_tells_34 rfl ?_
      refine gx_get (t := 8) (k := 8) (v := .ref (ad x0 (a0 + 12))) 35 cw8 (by decide) (tgs (st_0 ga0) (by decide)) q491 same_f (rf_ne (nes (st_12 ga0) (by decide))) dX7_tells_35 ?_
      refine gx_iload 38 4 dX7_tells_38 rfl ?_
      obtain ⟨g41, h⟩ := gd_e h
      obtain ⟨g42, h⟩ := gd_e h
      refine gx_aald (t := 111) (ty := (.array .int)) (r := (s35 (a0 + 12) (i32 x4_34))) 40 (by decide) rfl (by decide) (tgs (st_12 ga0) (by decide)) (oks (st_12 ga0) (by decide) g41) rfl g42 dX7_tells_40 ?_
      obtain ⟨g43, h⟩ := gd_e h
      obtain ⟨g44, h⟩ := gd_e h
      obtain ⟨g45, h⟩ := gd_e h
      obtain ⟨s46, es46, h⟩ := bnd_e h
      refine gx_aastI 41 (tgs (st_12 ga0) (by decide)) (st0 (st_12 ga0) (by decide)) (stm (st_12 ga0) (by decide)) (oks (st_12 ga0) (by decide) g43) g44 es46 dX7_tells_41 g45 ?_
      obtain ⟨x4_47, ex4_47, h⟩ := bnd_e h
      refine gx_iinc 42 4 [(4, J x4_47), (0, .ref (ad x0 a0)), (1, J x1_31), (2, J x2_32), (3, .ref (ad x0 x3_33))] dX7_tells_42 rfl ex4_47 (by decide) rfl ?_
      refine gx_goto 45 19 dX7_tells_45 (by decide) ?_
      refine gx_sub [1, 2, 3, 4, 0] rfl ?_
      exact ih _ _ _ _ _ h
theorem mx7_tells {x0 : Nat} {D : XD} {a0 : Int} {a1 : Int} {a2 : Int} {s0 : XS} {res : Int × XS} (h : x7_tells a0 a1 a2 s0 = some res) (l : Launch) : XMet0 l yX7_tells cX7_tells 5 none 1 true x0 D [.ref (ad x0 a0), J a1, J a2] s0 0 res := by
  refine XMet0.ofn [(0, .ref (ad x0 a0)), (1, J a1), (2, J a2)] "VerbAtDusk$State" "tells" rfl rfl (plainFor_of_name (by decide)) (Nat.le_of_ble_eq_true rfl) rfl ?_
  unfold x7_tells at h
  generalize nC s0 = cN
  generalize nS s0 = sN
  obtain ⟨ga0, h⟩ := gd_e h
  refine gx_aload_n 0 0 dX7_tells_0 rfl ?_
  refine gx_get (t := 8) (k := 2) (v := J (s0 a0 2)) 1 cw8 (by decide) (tgs (st_0 ga0) (by decide)) q477 same_f rfl dX7_tells_1 ?_
  refine gx_bipush 4 dX7_tells_4 (by decide) ?_
  obtain ⟨j25, ej25, h⟩ := bnd_e h
  have hj25 : ∀ (x1_3 : Int) (x2_4 : Int) (s5 : XS), j25 x1_3 x2_4 s5 = some res → GX l cX7_tells "VerbAtDusk$State" 5 none "tells" [] x0 D true 0 1 cN sN (0, res) s5 66 [(0, .ref (ad x0 a0)), (1, J x1_3), (2, J x2_4)] [] := by
    clear h
    intro x1_3 x2_4 s5 h
    subst ej25
    refine gx_aload_n 66 0 dX7_tells_66 rfl ?_
    refine gx_get (t := 8) (k := 8) (v := .ref (ad x0 (a0 + 12))) 67 cw8 (by decide) (tgs (st_0 ga0) (by decide)) q491 same_f (rf_ne (nes (st_12 ga0) (by decide))) dX7_tells_67 ?_
    refine gx_aload_n 70 0 dX7_tells_70 rfl ?_
    refine gx_get (t := 8) (k := 2) (v := J (s5 a0 2)) 71 cw8 (by decide) (tgs (st_0 ga0) (by decide)) q477 same_f rfl dX7_tells_71 ?_
    obtain ⟨g6, h⟩ := gd_e h
    obtain ⟨g7, h⟩ := gd_e h
    refine gx_aald (t := 111) (ty := (.array .int)) (r := (s5 (a0 + 12) (i32 (s5 a0 2)))) 74 (by decide) rfl (by decide) (tgs (st_12 ga0) (by decide)) (oks (st_12 ga0) (by decide) g6) rfl g7 dX7_tells_74 ?_
    refine gx_iconst 75 dX7_tells_75 ?_
    refine gx_aload_n 76 0 dX7_tells_76 rfl ?_
    refine gx_get (t := 8) (k := 0) (v := J (s5 a0 0)) 77 cw8 (by decide) (tgs (st_0 ga0) (by decide)) q473 same_f rfl dX7_tells_77 ?_
    obtain ⟨g8, h⟩ := gd_e h
    obtain ⟨g9, h⟩ := gd_e h
    obtain ⟨g10, h⟩ := gd_e h
    obtain ⟨s11, es11, h⟩ := bnd_e h
    refine gx_iast 80 g8 g9.1 g9.2 g10 es11 dX7_tells_80 ?_
    refine gx_aload_n 81 0 dX7_tells_81 rfl ?_
    refine gx_get (t := 8) (k := 8) (v := .ref (ad x0 (a0 + 12))) 82 cw8 (by decide) (tgs (st_0 ga0) (by decide)) q491 same_f (rf_ne (nes (st_12 ga0) (by decide))) dX7_tells_82 ?_
    refine gx_aload_n 85 0 dX7_tells_85 rfl ?_
    refine gx_get (t := 8) (k := 2) (v := J (s11 a0 2)) 86 cw8 (by decide) (tgs (st_0 ga0) (by decide)) q477 same_f rfl dX7_tells_86 ?_
    obtain ⟨g12, h⟩ := gd_e h
    obtain ⟨g13, h⟩ := gd_e h
    refine gx_aald (t := 111) (ty := (.array .int)) (r := (s11 (a0 + 12) (i32 (s11 a0 2)))) 89 (by decide) rfl (by decide) (tgs (st_12 ga0) (by decide)) (oks (st_12 ga0) (by decide) g12) rfl g13 dX7_tells_89 ?_
    refine gx_iconst 90 dX7_tells_90 ?_
    refine gx_iload_n 91 1 dX7_tells_91 rfl ?_
    obtain ⟨g14, h⟩ := gd_e h
    obtain ⟨g15, h⟩ := gd_e h
    obtain ⟨g16, h⟩ := gd_e h
    obtain ⟨s17, es17, h⟩ := bnd_e h
    refine gx_iast 92 g14 g15.1 g15.2 g16 es17 dX7_tells_92 ?_
    refine gx_aload_n 93 0 dX7_tells_93 rfl ?_
    refine gx_get (t := 8) (k := 8) (v := .ref (ad x0 (a0 + 12))) 94 cw8 (by decide) (tgs (st_0 ga0) (by decide)) q491 same_f (rf_ne (nes (st_12 ga0) (by decide))) dX7_tells_94 ?_
    refine gx_aload_n 97 0 dX7_tells_97 rfl ?_
    refine gx_get (t := 8) (k := 2) (v := J (s17 a0 2)) 98 cw8 (by decide) (tgs (st_0 ga0) (by decide)) q477 same_f rfl dX7_tells_98 ?_
    obtain ⟨g18, h⟩ := gd_e h
    obtain ⟨g19, h⟩ := gd_e h
    refine gx_aald (t := 111) (ty := (.array .int)) (r := (s17 (a0 + 12) (i32 (s17 a0 2)))) 101 (by decide) rfl (by decide) (tgs (st_12 ga0) (by decide)) (oks (st_12 ga0) (by decide) g18) rfl g19 dX7_tells_101 ?_
    refine gx_iconst 102 dX7_tells_102 ?_
    refine gx_iload_n 103 2 dX7_tells_103 rfl ?_
    obtain ⟨g20, h⟩ := gd_e h
    obtain ⟨g21, h⟩ := gd_e h
    obtain ⟨g22, h⟩ := gd_e h
    obtain ⟨s23, es23, h⟩ := bnd_e h
    refine gx_iast 104 g20 g21.1 g21.2 g22 es23 dX7_tells_104 ?_
    refine gx_aload_n 105 0 dX7_tells_105 rfl ?_
    refine gx_dup 106 dX7_tells_106 rfl ?_
    refine gx_get (t := 8) (k := 2) (v := J (s23 a0 2)) 107 cw8 (by decide) (tgs (st_0 ga0) (by decide)) q477 same_f rfl dX7_tells_107 ?_
    refine gx_iconst 110 dX7_tells_110 ?_
    refine gx_iadd 111 dX7_tells_111 ?_
    obtain ⟨s24, es24, h⟩ := bnd_e h
    refine gx_put (t := 8) (k := 2) (x := ((s23 a0 2) + 1)) (ty := .int) 112 cw8 (by decide) (tgs (st_0 ga0) (by decide)) (st0 (st_0 ga0) (by decide)) (stm (st_0 ga0) (by decide)) q477 same_f rfl (by decide +kernel) rfl rfl (congrArg J (ux_s _ _ _ _)) es24 dX7_tells_112 ?_
    exact gx_vret 115 dX7_tells_115 (rt h)
  refine gx_icmp_ne 6 66 dX7_tells_6 (by decide) (fun c26 => ?_) (fun c26 => ?_)
  · replace h := if_f h c26
    refine gx_sub [0, 1, 2] rfl ?_
    exact hj25 _ _ _ h
  · replace h := if_t h c26
    refine gx_aload_n 9 0 dX7_tells_9 rfl ?_
    refine gx_get (t := 8) (k := 8) (v := .ref (ad x0 (a0 + 12))) 10 cw8 (by decide) (tgs (st_0 ga0) (by decide)) q491 same_f (rf_ne (nes (st_12 ga0) (by decide))) dX7_tells_10 ?_
    refine gx_iconst 13 dX7_tells_13 ?_
    obtain ⟨g27, h⟩ := gd_e h
    obtain ⟨g28, h⟩ := gd_e h
    refine gx_aald (t := 111) (ty := (.array .int)) (r := (s0 (a0 + 12) (i32 0))) 14 (by decide) rfl (by decide) (tgs (st_12 ga0) (by decide)) (oks (st_12 ga0) (by decide) g27) rfl g28 dX7_tells_14 ?_
    obtain ⟨x3_29, ex3_29, h⟩ := bnd_e h
    refine gx_astore_nv 15 [(3, .ref (ad x0 x3_29)), (0, .ref (ad x0 a0)), (1, J a1), (2, J a2)] dX7_tells_15 (by decide) ex3_29 rfl ?_
    refine gx_iconst 16 dX7_tells_16 ?_
    obtain ⟨x4_30, ex4_30, h⟩ := bnd_e h
    refine gx_istore 17 [(4, J x4_30), (3, .ref (ad x0 x3_29)), (0, .ref (ad x0 a0)), (1, J a1), (2, J a2)] dX7_tells_17 (by decide) ex4_30 rfl ?_
    refine gx_sub [2, 3, 4, 1, 0] rfl ?_
    refine wx7_tells_L19 ga0 (fun x1_48 x2_49 x3_50 s51 h => ?_) FU _ _ _ _ _ h
    · refine gx_aload_n 48 0 dX7_tells_48 rfl ?_
      refine gx_get (t := 8) (k := 8) (v := .ref (ad x0 (a0 + 12))) 49 cw8 (by decide) (tgs (st_0 ga0) (by decide)) q491 same_f (rf_ne (nes (st_12 ga0) (by decide))) dX7_tells_49 ?_
      refine gx_bipush 52 dX7_tells_52 (by decide) ?_
      refine gx_aload_n 54 3 dX7_tells_54 rfl ?_
      obtain ⟨g52, h⟩ := gd_e h
      obtain ⟨g53, h⟩ := gd_e h
      obtain ⟨g54, h⟩ := gd_e h
      obtain ⟨s55, es55, h⟩ := bnd_e h
      refine gx_aastI 55 (tgs (st_12 ga0) (by decide)) (st0 (st_12 ga0) (by decide)) (stm (st_12 ga0) (by decide)) (oks (st_12 ga0) (by decide) g52) g53 es55 dX7_tells_55 g54 ?_
      refine gx_aload_n 56 0 dX7_tells_56 rfl ?_
      refine gx_dup 57 dX7_tells_57 rfl ?_
      refine gx_get (t := 8) (k := 2) (v := J (s55 a0 2)) 58 cw8 (by decide) (tgs (st_0 ga0) (by decide)) q477 same_f rfl dX7_tells_58 ?_
      refine gx_iconst 61 dX7_tells_61 ?_
      refine gx_isub 62 dX7_tells_62 ?_
      obtain ⟨s56, es56, h⟩ := bnd_e h
      refine gx_put (t := 8) (k := 2) (x := ((s55 a0 2) - 1)) (ty := .int) 63 cw8 (by decide) (tgs (st_0 ga0) (by decide)) (st0 (st_0 ga0) (by decide)) (stm (st_0 ga0) (by decide)) q477 same_f rfl (by decide +kernel) rfl rfl (congrArg J (ux_s _ _ _ _)) es56 dX7_tells_63 ?_
      refine gx_sub [0, 1, 2] rfl ?_
      exact hj25 _ _ _ h
/-! VerbAtDusk$State.gives -/
noncomputable def x7_gives (a0 : Int) (a1 : Int) (a2 : Int) (s0 : XS) : Option (Int × XS) :=
  gd (isSt a0) <|
  gd (ok 6 a1) <|
  bnd (ux s0 (a0 + 4) (i32 a1) a2) fun s4 =>
  gd (ok 6 a1) <|
  gd (ok 6 a1) <|
  gd (ok 7 a2) <|
  Option.bind (j12_min true 99 ((s4 ((a0 + 5) + 1 + i32 a1) (i32 a2)) + 1) s4) fun z8 =>
  gd (ok 7 a2) <|
  bnd (ux z8.2 ((a0 + 5) + 1 + i32 a1) (i32 a2) z8.1) fun s10 =>
  Option.bind (x7_tells a0 a1 a2 s10) fun z11 =>
  gd (¬ (z11.2 0 0) = -1) <|
  gd (tg true z11.2 (z11.2 0 0) = 2) <|
  if (z11.2 (z11.2 0 0) 8) = -1 then
    some (0, z11.2)
  else
    Option.bind (x7_asks a0 a1 a2 z11.2) fun z15 =>
    gd (¬ (z15.2 0 0) = -1) <|
    gd (tg true z15.2 (z15.2 0 0) = 2) <|
    gd (¬ (z15.2 (z15.2 0 0) 8) = -1) <|
    Option.bind (x_at 64 (z15.2 (z15.2 0 0) 8) 9 z15.2) fun z19 =>
    Option.bind (j12_min_2 true 9 z19.1 z19.2) fun z20 =>
    Option.bind (j12_max_2 true 0 z20.1 z20.2) fun z21 =>
    gd (ok 6 a1) <|
    bnd (ux z21.2 (a0 + 3) (i32 a1) z21.1) fun s23 =>
    some (0, s23)
theorem mx7_gives {x0 : Nat} {D : XD} {a0 : Int} {a1 : Int} {a2 : Int} {s0 : XS} {res : Int × XS} (h : x7_gives a0 a1 a2 s0 = some res) (l : Launch) : XMet0 l yX7_gives cX7_gives 3 none 452 true x0 D [.ref (ad x0 a0), J a1, J a2] s0 0 res := by
  refine XMet0.ofn [(0, .ref (ad x0 a0)), (1, J a1), (2, J a2)] "VerbAtDusk$State" "gives" rfl rfl (plainFor_of_name (by decide)) (Nat.le_of_ble_eq_true rfl) rfl ?_
  unfold x7_gives at h
  generalize nC s0 = cN
  generalize nS s0 = sN
  obtain ⟨ga0, h⟩ := gd_e h
  refine gx_aload_n 0 0 dX7_gives_0 rfl ?_
  refine gx_get (t := 8) (k := 6) (v := .ref (ad x0 (a0 + 4))) 1 cw8 (by decide) (tgs (st_0 ga0) (by decide)) q487 same_f (rf_ne (nes (st_4 ga0) (by decide))) dX7_gives_1 ?_
  refine gx_iload_n 4 1 dX7_gives_4 rfl ?_
  refine gx_iload_n 5 2 dX7_gives_5 rfl ?_
  obtain ⟨g3, h⟩ := gd_e h
  obtain ⟨s4, es4, h⟩ := bnd_e h
  refine gx_iast 6 (tgs (st_4 ga0) (by decide)) (st0 (st_4 ga0) (by decide)) (stm (st_4 ga0) (by decide)) (oks (st_4 ga0) (by decide) g3) es4 dX7_gives_6 ?_
  refine gx_aload_n 7 0 dX7_gives_7 rfl ?_
  refine gx_get (t := 8) (k := 7) (v := .ref (ad x0 (a0 + 5))) 8 cw8 (by decide) (tgs (st_0 ga0) (by decide)) q489 same_f (rf_ne (nes (st_5 ga0) (by decide))) dX7_gives_8 ?_
  refine gx_iload_n 11 1 dX7_gives_11 rfl ?_
  obtain ⟨g5, h⟩ := gd_e h
  refine gx_aald (t := 121) (ty := (.array .int)) (r := ((a0 + 5) + 1 + i32 a1)) 12 (by decide) rfl (by decide) (tgs (st_5 ga0) (by decide)) (oks (st_5 ga0) (by decide) g5) rfl (nes (st_g ga0 g5) (by decide)) dX7_gives_12 ?_
  refine gx_iload_n 13 2 dX7_gives_13 rfl ?_
  refine gx_bipush 14 dX7_gives_14 (by decide) ?_
  refine gx_aload_n 16 0 dX7_gives_16 rfl ?_
  refine gx_get (t := 8) (k := 7) (v := .ref (ad x0 (a0 + 5))) 17 cw8 (by decide) (tgs (st_0 ga0) (by decide)) q489 same_f (rf_ne (nes (st_5 ga0) (by decide))) dX7_gives_17 ?_
  refine gx_iload_n 20 1 dX7_gives_20 rfl ?_
  obtain ⟨g6, h⟩ := gd_e h
  refine gx_aald (t := 121) (ty := (.array .int)) (r := ((a0 + 5) + 1 + i32 a1)) 21 (by decide) rfl (by decide) (tgs (st_5 ga0) (by decide)) (oks (st_5 ga0) (by decide) g6) rfl (nes (st_g ga0 g6) (by decide)) dX7_gives_21 ?_
  refine gx_iload_n 22 2 dX7_gives_22 rfl ?_
  obtain ⟨g7, h⟩ := gd_e h
  refine gx_iald 23 (tgs (st_g ga0 g6) (by decide)) (oks (st_g ga0 g6) (by decide) g7) dX7_gives_23 ?_
  refine gx_iconst 24 dX7_gives_24 ?_
  refine gx_iadd 25 dX7_gives_25 ?_
  obtain ⟨z8, ez8, h⟩ := opt_e h
  refine gx_callS (As := [J 99, J ((s4 ((a0 + 5) + 1 + i32 a1) (i32 a2)) + 1)]) (rest := [J a2, .ref (ad x0 ((a0 + 5) + 1 + i32 a1))]) (st' := [J z8.1, J a2, .ref (ad x0 ((a0 + 5) + 1 + i32 a1))]) 26 2 (mj12_min ez8 l) (lw_S q1584 q982 q170 q983) (by decide +kernel) (by decide) rfl rfl (Nat.le_of_ble_eq_true rfl) dX7_gives_26 rfl ?_
  obtain ⟨g9, h⟩ := gd_e h
  obtain ⟨s10, es10, h⟩ := bnd_e h
  refine gx_iast 29 (tgs (st_g ga0 g6) (by decide)) (st0 (st_g ga0 g6) (by decide)) (stm (st_g ga0 g6) (by decide)) (oks (st_g ga0 g6) (by decide) g9) es10 dX7_gives_29 ?_
  refine gx_aload_n 30 0 dX7_gives_30 rfl ?_
  refine gx_iload_n 31 1 dX7_gives_31 rfl ?_
  refine gx_iload_n 32 2 dX7_gives_32 rfl ?_
  obtain ⟨z11, ez11, h⟩ := opt_e h
  refine gx_callV (As := [J a1, J a2]) (rest := []) (st' := []) 33 2 cw8 (tgs (st_0 ga0) (by decide)) (mx7_tells ez11 l) (lw_V q1585 q1587 qs47 q160 q1588) (by decide +kernel) (by decide) rfl rfl (Nat.le_of_ble_eq_true rfl) dX7_gives_33 rfl ?_
  refine gx_aload_n 36 0 dX7_gives_36 rfl ?_
  refine gx_get (t := 8) (k := 9) (v := .ref (ad x0 0)) 37 cw8 (by decide) (tgs (st_0 ga0) (by decide)) q493 same_f (rf_ne (nes (show stc 0 = (1, 0) by decide) (by decide))) dX7_gives_37 ?_
  obtain ⟨g12, h⟩ := gd_e h
  refine gx_getN (t := 1) (k := 0) (v := .ref (ad x0 (z11.2 0 0))) 40 cw1 (by decide) (tgs (show stc 0 = (1, 0) by decide) (by decide)) q517 same_f (rf_ne g12) dX7_gives_40 ?_
  obtain ⟨g13, h⟩ := gd_e h
  refine gx_gifnonnullN (t := 2) (k := 8) 43 50 cw2 (by decide) g13 q252 same_f rfl dX7_gives_43 dX7_gives_46 (by decide) (fun c14 => ?_) (fun c14 => ?_)
  · replace h := if_f h c14
    refine gx_aload_n 50 0 dX7_gives_50 rfl ?_
    refine gx_iload_n 51 1 dX7_gives_51 rfl ?_
    refine gx_iload_n 52 2 dX7_gives_52 rfl ?_
    obtain ⟨z15, ez15, h⟩ := opt_e h
    refine gx_callV (As := [J a1, J a2]) (rest := []) (st' := []) 53 2 cw8 (tgs (st_0 ga0) (by decide)) (mx7_asks ez15 l) (lw_V q1364 q1366 qs37 q160 q1367) (by decide +kernel) (by decide) rfl rfl (Nat.le_of_ble_eq_true rfl) dX7_gives_53 rfl ?_
    refine gx_aload_n 56 0 dX7_gives_56 rfl ?_
    refine gx_get (t := 8) (k := 5) (v := .ref (ad x0 (a0 + 3))) 57 cw8 (by decide) (tgs (st_0 ga0) (by decide)) q485 same_f (rf_ne (nes (st_3 ga0) (by decide))) dX7_gives_57 ?_
    refine gx_iload_n 60 1 dX7_gives_60 rfl ?_
    refine gx_lconst (v := 0) 61 dX7_gives_61 (by decide) ?_
    refine gx_ldc2 (v := 9) 62 dX7_gives_62 q1589 (by decide) ?_
    refine gx_aload_n 65 0 dX7_gives_65 rfl ?_
    refine gx_get (t := 8) (k := 9) (v := .ref (ad x0 0)) 66 cw8 (by decide) (tgs (st_0 ga0) (by decide)) q493 same_f (rf_ne (nes (show stc 0 = (1, 0) by decide) (by decide))) dX7_gives_66 ?_
    obtain ⟨g16, h⟩ := gd_e h
    refine gx_getN (t := 1) (k := 0) (v := .ref (ad x0 (z15.2 0 0))) 69 cw1 (by decide) (tgs (show stc 0 = (1, 0) by decide) (by decide)) q517 same_f (rf_ne g16) dX7_gives_69 ?_
    obtain ⟨g17, h⟩ := gd_e h
    obtain ⟨g18, h⟩ := gd_e h
    refine gx_getN (t := 2) (k := 8) (v := .ref (ad x0 (z15.2 (z15.2 0 0) 8))) 72 cw2 (by decide) g17 q252 same_f (rf_ne g18) dX7_gives_72 ?_
    refine gx_aload_n 75 0 dX7_gives_75 rfl ?_
    refine gx_get (t := 8) (k := 9) (v := .ref (ad x0 0)) 76 cw8 (by decide) (tgs (st_0 ga0) (by decide)) q493 same_f (rf_ne (nes (show stc 0 = (1, 0) by decide) (by decide))) dX7_gives_76 ?_
    refine gx_getN (t := 1) (k := 6) (v := .ref (ad x0 9)) 79 cw1 (by decide) (tgs (show stc 0 = (1, 0) by decide) (by decide)) q526 same_f (rf_ne (nes (show stc 9 = (5, 0) by decide) (by decide))) dX7_gives_79 ?_
    obtain ⟨z19, ez19, h⟩ := opt_e h
    refine gx_callAt (rest := [Lg 9, Lg 0, J a1, .ref (ad x0 (a0 + 3))]) (st' := [Lg z19.1, Lg 9, Lg 0, J a1, .ref (ad x0 (a0 + 3))]) 82 (mx_at ez19 l) q1429 (by decide) rfl (Nat.le_of_ble_eq_true rfl) dX7_gives_82 rfl ?_
    obtain ⟨z20, ez20, h⟩ := opt_e h
    refine gx_callS (As := [Lg 9, Lg z19.1]) (rest := [Lg 0, J a1, .ref (ad x0 (a0 + 3))]) (st' := [Lg z20.1, Lg 0, J a1, .ref (ad x0 (a0 + 3))]) 85 2 (mj12_min_2 ez20 l) (lw_S q1590 q1401 q170 q1402) (by decide +kernel) (by decide) rfl rfl (Nat.le_of_ble_eq_true rfl) dX7_gives_85 rfl ?_
    obtain ⟨z21, ez21, h⟩ := opt_e h
    refine gx_callS (As := [Lg 0, Lg z20.1]) (rest := [J a1, .ref (ad x0 (a0 + 3))]) (st' := [Lg z21.1, J a1, .ref (ad x0 (a0 + 3))]) 88 2 (mj12_max_2 ez21 l) (lw_S q1591 q1404 q170 q1405) (by decide +kernel) (by decide) rfl rfl (Nat.le_of_ble_eq_true rfl) dX7_gives_88 rfl ?_
    refine gx_l2i 91 dX7_gives_91 ?_
    obtain ⟨g22, h⟩ := gd_e h
    obtain ⟨s23, es23, h⟩ := bnd_e h
    refine gx_iast 92 (tgs (st_3 ga0) (by decide)) (st0 (st_3 ga0) (by decide)) (stm (st_3 ga0) (by decide)) (oks (st_3 ga0) (by decide) g22) es23 dX7_gives_92 ?_
    exact gx_vret 93 dX7_gives_93 (rt h)
  · replace h := if_t h c14
    exact gx_vret 49 dX7_gives_49 (rt h)
