/-! THE SYSTEM: methods as functions, and their walks (written by xparts.py) -/
set_option maxRecDepth 100000
/-! VerbAtDusk.country -/
noncomputable def x0_country (s0 : XS) : Option (Int × XS) :=
  bnd (ux s0 0 3 0) fun s1 =>
  bnd (ux s1 0 4 (-1)) fun s2 =>
  Option.bind (x0_taken s2) fun z3 =>
  bnd (fun (s4 : XS) =>
      bnd 8 fun x1_5 =>
      gd (tg true s4 x1_5 = 4) <|
      bnd (ux s4 0 3 (s4 x1_5 6)) fun s7 =>
      gd (tg true s7 x1_5 = 4) <|
      bnd (ux s7 0 4 (s7 x1_5 7)) fun s9 =>
      Option.bind (x0_refuses 1 s9) fun z10 =>
      some (z10.1, z10.2)) fun j11 =>
  Option.bind (x2_all z3.1 z3.2) fun z12 =>
  if z12.1 = 0 then
  gd (¬ z12.2.1 = -1) <|
  bnd (ux z12.2.2 0 0 z12.2.1) fun s15 =>
  Option.bind (x7_begins 36 s15) fun z16 =>
  bnd (ux z16.2 0 19 0) fun s17 =>
  bnd (ux s17 0 16 0) fun s18 =>
  gd (¬ (s18 0 0) = -1) <|
  gd (tg true s18 (s18 0 0) = 2) <|
  some ((s18 (s18 0 0) 0), s18)
  else j11 z12.2.2
theorem mx0_country {x0 : Nat} {D : XD} {s0 : XS} {res : Int × XS} (h : x0_country s0 = some res) (l : Launch) : XMetW l yX0_country cX0_country 2 (some .int) [(10, 25, 28, 137)] 1083 true x0 D [.ref (ad x0 0)] s0 1 res := by
  refine XMetW.ofn [(0, .ref (ad x0 0))] "VerbAtDusk" "country" rfl rfl (plainFor_of_name (by decide)) (Nat.le_of_ble_eq_true rfl) rfl rfl ?_
  unfold x0_country at h
  generalize nC s0 = cN
  generalize nS s0 = sN
  refine gx_aload_n 0 0 dX0_country_0 rfl ?_
  refine gx_iconst 1 dX0_country_1 ?_
  obtain ⟨s1, es1, h⟩ := bnd_e h
  refine gx_put (t := 1) (k := 3) (x := 0) (ty := .int) 2 cw1 (by decide) (tgs (show stc 0 = (1, 0) by decide) (by decide)) (st0 (show stc 0 = (1, 0) by decide) (by decide)) (stm (show stc 0 = (1, 0) by decide) (by decide)) q523 same_f rfl (by decide +kernel) rfl rfl (congrArg J (ux_s _ _ _ _)) es1 dX0_country_2 ?_
  refine gx_aload_n 5 0 dX0_country_5 rfl ?_
  refine gx_iconst 6 dX0_country_6 ?_
  obtain ⟨s2, es2, h⟩ := bnd_e h
  refine gx_put (t := 1) (k := 4) (x := (-1)) (ty := .int) 7 cw1 (by decide) (tgs (show stc 0 = (1, 0) by decide) (by decide)) (st0 (show stc 0 = (1, 0) by decide) (by decide)) (stm (show stc 0 = (1, 0) by decide) (by decide)) q524 same_f rfl (by decide +kernel) rfl rfl (congrArg J (ux_s _ _ _ _)) es2 dX0_country_7 ?_
  refine gx_aload_n 10 0 dX0_country_10 rfl ?_
  refine gx_aload_n 11 0 dX0_country_11 rfl ?_
  refine gx_get (t := 1) (k := 5) (v := .ref (ad x0 7)) 12 cw1 (by decide) (tgs (show stc 0 = (1, 0) by decide) (by decide)) q525 same_f (rf_ne (nes (show stc 7 = (3, 0) by decide) (by decide))) dX0_country_12 ?_
  refine gx_aload_n 15 0 dX0_country_15 rfl ?_
  obtain ⟨z3, ez3, h⟩ := opt_e h
  refine gx_callV (As := []) (rest := [.ref (ad x0 7), .ref (ad x0 0)]) (st' := [J z3.1, .ref (ad x0 7), .ref (ad x0 0)]) 16 0 cw1 (tgs (show stc 0 = (1, 0) by decide) (by decide)) (mx0_taken ez3 l) (lw_V q617 q619 qs3 q147 q620) (by decide +kernel) (by decide) rfl rfl (Nat.le_of_ble_eq_true rfl) dX0_country_16 rfl ?_
  obtain ⟨j11, ej11, h⟩ := bnd_e h
  have hj11 : ∀ (s4 : XS), j11 s4 = some res → GX l cX0_country "VerbAtDusk" 2 (some .int) "country" [⟨10, 25, 28, 137⟩] x0 D true 1 1083 cN sN (0, res) s4 28 [(0, .ref (ad x0 0))] [.ref (ad x0 8)] := by
    clear h
    intro s4 h
    subst ej11
    obtain ⟨x1_5, ex1_5, h⟩ := bnd_e h
    refine gx_astore_nv 28 [(1, .ref (ad x0 x1_5)), (0, .ref (ad x0 0))] dX0_country_28 (by decide) ex1_5 rfl ?_
    refine gx_aload_n 29 1 dX0_country_29 rfl ?_
    refine gx_aload_n 30 0 dX0_country_30 rfl ?_
    obtain ⟨g6, h⟩ := gd_e h
    refine gx_getN (t := 4) (k := 6) (v := J (s4 x1_5 6)) 31 cw4 (by decide) g6 q331 same_f rfl dX0_country_31 ?_
    obtain ⟨s7, es7, h⟩ := bnd_e h
    refine gx_put (t := 1) (k := 3) (x := (s4 x1_5 6)) (ty := .int) 34 cw1 (by decide) (tgs (show stc 0 = (1, 0) by decide) (by decide)) (st0 (show stc 0 = (1, 0) by decide) (by decide)) (stm (show stc 0 = (1, 0) by decide) (by decide)) q523 same_f rfl (by decide +kernel) rfl rfl (congrArg J (ux_s _ _ _ _)) es7 dX0_country_34 ?_
    refine gx_aload_n 37 1 dX0_country_37 rfl ?_
    refine gx_aload_n 38 0 dX0_country_38 rfl ?_
    obtain ⟨g8, h⟩ := gd_e h
    refine gx_getN (t := 4) (k := 7) (v := J (s7 x1_5 7)) 39 cw4 (by decide) g8 q333 same_f rfl dX0_country_39 ?_
    obtain ⟨s9, es9, h⟩ := bnd_e h
    refine gx_put (t := 1) (k := 4) (x := (s7 x1_5 7)) (ty := .int) 42 cw1 (by decide) (tgs (show stc 0 = (1, 0) by decide) (by decide)) (st0 (show stc 0 = (1, 0) by decide) (by decide)) (stm (show stc 0 = (1, 0) by decide) (by decide)) q524 same_f rfl (by decide +kernel) rfl rfl (congrArg J (ux_s _ _ _ _)) es9 dX0_country_42 ?_
    refine gx_aload_n 45 1 dX0_country_45 rfl ?_
    refine gx_iconst 46 dX0_country_46 ?_
    obtain ⟨z10, ez10, h⟩ := opt_e h
    refine gx_callV (As := [J 1]) (rest := []) (st' := [J z10.1]) 47 1 cw1 (tgs (show stc 0 = (1, 0) by decide) (by decide)) (mx0_refuses ez10 l) (lw_V q600 q602 qs1 q147 q603) (by decide +kernel) (by decide) rfl rfl (Nat.le_of_ble_eq_true rfl) dX0_country_47 rfl ?_
    exact gx_iret 50 dX0_country_50 (rt h)
  obtain ⟨z12, ez12, h⟩ := opt_e h
  by_cases c13 : z12.1 = 0
  rotate_left
  · replace h := if_f h c13
    refine gx_callTC (x9 := ⟨10, 25, 28, 137⟩) (As := [J z3.1]) (rest := [.ref (ad x0 0)]) 19 1 rfl (by decide) (by decide) q616 cw3 (tgs (show stc 7 = (3, 0) by decide) (by decide)) c13 (mx2_all ez12 l) (lw_V q621 q622 q623 q152 q624) (by decide +kernel) (by decide) rfl rfl (Nat.le_of_ble_eq_true rfl) dX0_country_19 ?_
    refine gx_sub [0] rfl ?_
    exact hj11 _ h
  replace h := if_t h c13
  refine gx_callT (As := [J z3.1]) (rest := [.ref (ad x0 0)]) (st' := [.ref (ad x0 z12.2.1), .ref (ad x0 0)]) 19 1 cw3 (tgs (show stc 7 = (3, 0) by decide) (by decide)) c13 (mx2_all ez12 l) (lw_V q621 q622 q623 q152 q624) (by decide +kernel) (by decide) rfl rfl (Nat.le_of_ble_eq_true rfl) dX0_country_19 rfl ?_
  obtain ⟨g14, h⟩ := gd_e h
  obtain ⟨s15, es15, h⟩ := bnd_e h
  refine gx_put (t := 1) (k := 0) (x := z12.2.1) (ty := (.object "VerbAtDusk$Country")) 22 cw1 (by decide) (tgs (show stc 0 = (1, 0) by decide) (by decide)) (st0 (show stc 0 = (1, 0) by decide) (by decide)) (stm (show stc 0 = (1, 0) by decide) (by decide)) q519 same_f rfl (by decide +kernel) (refOk rfl _).1 (refOk rfl _).2 ((congrArg (rf x0) (ux_s _ _ _ _)).trans (rf_ne g14)) es15 dX0_country_22 ?_
  refine gx_goto 25 51 dX0_country_25 (by decide) ?_
  refine gx_aload_n 51 0 dX0_country_51 rfl ?_
  refine gx_get (t := 1) (k := 11) (v := .ref (ad x0 36)) 52 cw1 (by decide) (tgs (show stc 0 = (1, 0) by decide) (by decide)) q534 same_f (rf_ne (nes (show stc 36 = (8, 6) by decide) (by decide))) dX0_country_52 ?_
  obtain ⟨z16, ez16, h⟩ := opt_e h
  refine gx_callV (As := []) (rest := []) (st' := []) 55 0 cw8 (tgs (show stc 36 = (8, 6) by decide) (by decide)) (mx7_begins ez16 l) (lw_V q1284 q1285 q1286 q160 q1287) (by decide +kernel) (by decide) rfl rfl (Nat.le_of_ble_eq_true rfl) dX0_country_55 rfl ?_
  refine gx_aload_n 58 0 dX0_country_58 rfl ?_
  refine gx_iconst 59 dX0_country_59 ?_
  obtain ⟨s17, es17, h⟩ := bnd_e h
  refine gx_put (t := 1) (k := 19) (x := 0) (ty := .int) 60 cw1 (by decide) (tgs (show stc 0 = (1, 0) by decide) (by decide)) (st0 (show stc 0 = (1, 0) by decide) (by decide)) (stm (show stc 0 = (1, 0) by decide) (by decide)) q542 same_f rfl (by decide +kernel) rfl rfl (congrArg J (ux_s _ _ _ _)) es17 dX0_country_60 ?_
  refine gx_aload_n 63 0 dX0_country_63 rfl ?_
  refine gx_iconst 64 dX0_country_64 ?_
  obtain ⟨s18, es18, h⟩ := bnd_e h
  refine gx_put (t := 1) (k := 16) (x := 0) (ty := .int) 65 cw1 (by decide) (tgs (show stc 0 = (1, 0) by decide) (by decide)) (st0 (show stc 0 = (1, 0) by decide) (by decide)) (stm (show stc 0 = (1, 0) by decide) (by decide)) q539 same_f rfl (by decide +kernel) rfl rfl (congrArg J (ux_s _ _ _ _)) es18 dX0_country_65 ?_
  refine gx_aload_n 68 0 dX0_country_68 rfl ?_
  obtain ⟨g19, h⟩ := gd_e h
  refine gx_get (t := 1) (k := 0) (v := .ref (ad x0 (s18 0 0))) 69 cw1 (by decide) (tgs (show stc 0 = (1, 0) by decide) (by decide)) q519 same_f (rf_ne g19) dX0_country_69 ?_
  obtain ⟨g20, h⟩ := gd_e h
  refine gx_getN (t := 2) (k := 0) (v := J (s18 (s18 0 0) 0)) 72 cw2 (by decide) g20 q231 same_f rfl dX0_country_72 ?_
  exact gx_iret 75 dX0_country_75 (rt h)
/-! VerbAtDusk.ask -/
noncomputable def x0_ask_L64 (k218 : Int → XS → Option (Int × XS)) : Nat → Int → XS → Option (Int × XS)
  | 0, _, _ => none
  | n + 1, x2_18, s19 =>
    Option.bind (x0_sayings s19) fun z22 =>
    if i32 z22.1 ≤ i32 (s19 0 21) then
      k218 x2_18 z22.2
    else
      gd (ok 6 (z22.2 0 21)) <|
      gd (ok 9 0) <|
      bnd (ux z22.2 12 (i32 0) (i32 (z22.2 39 (i32 (z22.2 0 21))))) fun s26 =>
      gd (ok 9 4) <|
      bnd (ux s26 12 (i32 4) (i32 (s26 36 0))) fun s28 =>
      gd (ok 9 5) <|
      bnd (ux s28 12 (i32 5) (i32 (s28 0 21))) fun s30 =>
      gd (ok 6 (s30 0 21)) <|
      gd (ok 9 6) <|
      bnd (ux s30 12 (i32 6) (i32 (s30 37 (i32 (s30 0 21))))) fun s33 =>
      gd (ok 6 (s33 0 21)) <|
      gd (ok 9 7) <|
      bnd (ux s33 12 (i32 7) (i32 (s33 38 (i32 (s33 0 21))))) fun s36 =>
      Option.bind (x0_gets (s36 0 21) s36) fun z37 =>
      gd (ok 9 8) <|
      bnd (ux z37.2 12 (i32 8) (i32 z37.1)) fun s39 =>
      gd (tg true s39 x2_18 = 20) <|
      Option.bind (x23_meets x2_18 (s39 0 21) 11 s39) fun z40 =>
      bnd (ux z40.2 0 21 ((z40.2 0 21) + 1)) fun s42 =>
      x0_ask_L64 k218 n x2_18 s42
noncomputable def x0_ask (s0 : XS) : Option (Int × XS) :=
  Option.bind (x0_taken s0) fun z1 =>
  bnd z1.1 fun x1_2 =>
  Option.bind (x0_isCountry z1.2) fun z3 =>
  if i32 z3.1 = 0 then
    some ((-1000000000000000), z3.2)
  else
    bnd (ux z3.2 0 3 0) fun s5 =>
    bnd (ux s5 0 4 (-1)) fun s6 =>
    bnd (fun (s7 : XS) =>
        bnd 8 fun x3_8 =>
        gd (tg true s7 x3_8 = 4) <|
        bnd (ux s7 0 3 (s7 x3_8 6)) fun s10 =>
        gd (tg true s10 x3_8 = 4) <|
        bnd (ux s10 0 4 (s10 x3_8 7)) fun s12 =>
        some ((-1000000000000000), s12)) fun j13 =>
    Option.bind (x2_question x1_2 s6) fun z14 =>
    if z14.1 = 0 then
    bnd z14.2.1 fun x2_16 =>
    bnd (ux z14.2.2 0 21 0) fun s17 =>
    x0_ask_L64
      (fun (x2_43 : Int) (s44 : XS) =>
        gd (tg true s44 x2_43 = 20) <|
        Option.bind (x23_answer x2_43 s44) fun z45 =>
        some (z45.1, z45.2))
      FU x2_16 s17
    else j13 z14.2.2
theorem wx0_ask_L64 {l : Launch} {x0 : Nat} {D : XD} {cN sN : Nat} {res : Int × XS} {k218 : Int → XS → Option (Int × XS)} (hk218 : ∀ (x2_20 : Int) (s21 : XS), k218 x2_20 s21 = some res → GX l cX0_ask "VerbAtDusk" 4 (some .long) "ask" [⟨26, 35, 38, 137⟩] x0 D true 2 1082 cN sN (0, res) s21 218 [(2, .ref (ad x0 x2_20))] []) : ∀ (n : Nat) (x2_18 : Int) (s19 : XS), x0_ask_L64 k218 n x2_18 s19 = some res → GX l cX0_ask "VerbAtDusk" 4 (some .long) "ask" [⟨26, 35, 38, 137⟩] x0 D true 2 1082 cN sN (0, res) s19 64 [(0, .ref (ad x0 0)), (2, .ref (ad x0 x2_18))] [] := by
  intro n
  induction n with
  | zero =>
    intro x2_18 s19 h
    cases h
  | succ n ih =>
    intro x2_18 s19 h
    rw [x0_ask_L64] at h
    refine gx_aload_n 64 0 dX0_ask_64 rfl ?_
    refine gx_get (t := 1) (k := 21) (v := J (s19 0 21)) 65 cw1 (by decide) (tgs (show stc 0 = (1, 0) by decide) (by decide)) q544 same_f rfl dX0_ask_65 ?_
    refine gx_aload_n 68 0 dX0_ask_68 rfl ?_
    obtain ⟨z22, ez22, h⟩ := opt_e h
    refine gx_callV (As := []) (rest := [J (s19 0 21)]) (st' := [J z22.1, J (s19 0 21)]) 69 0 cw1 (tgs (show stc 0 = (1, 0) by decide) (by decide)) (mx0_sayings ez22 l) (lw_V q1305 q1290 qs33 q147 q1291) (by decide +kernel) (by decide) rfl rfl (Nat.le_of_ble_eq_true rfl) dX0_ask_69 rfl ?_
    refine gx_icmp_ge 72 218 dX0_ask_72 (by decide) (fun c23 => ?_) (fun c23 => ?_)
    · replace h := if_t h c23
      refine gx_sub [1] rfl ?_
      exact hk218 _ _ h
    · replace h := if_f h c23
      refine gx_aload_n 75 0 dX0_ask_75 rfl ?_
      refine gx_get (t := 1) (k := 7) (v := .ref (ad x0 11)) 76 cw1 (by decide) (tgs (show stc 0 = (1, 0) by decide) (by decide)) q528 same_f (rf_ne (nes (show stc 11 = (5, 0) by decide) (by decide))) dX0_ask_76 ?_
      refine gx_getN (t := 5) (k := 0) (v := .ref (ad x0 12)) 79 cw5 (by decide) (tgs (show stc 11 = (5, 0) by decide) (by decide)) q386 same_f (rf_ne (nes (show stc 12 = (104, 9) by decide) (by decide))) dX0_ask_79 ?_
      refine gx_iconst 82 dX0_ask_82 ?_
      refine gx_aload_n 83 0 dX0_ask_83 rfl ?_
      refine gx_get (t := 1) (k := 11) (v := .ref (ad x0 36)) 84 cw1 (by decide) (tgs (show stc 0 = (1, 0) by decide) (by decide)) q534 same_f (rf_ne (nes (show stc 36 = (8, 6) by decide) (by decide))) dX0_ask_84 ?_
      refine gx_getN (t := 8) (k := 5) (v := .ref (ad x0 39)) 87 cw8 (by decide) (tgs (show stc 36 = (8, 6) by decide) (by decide)) q486 same_f (rf_ne (nes (show stc 39 = (101, 6) by decide) (by decide))) dX0_ask_87 ?_
      refine gx_aload_n 90 0 dX0_ask_90 rfl ?_
      refine gx_get (t := 1) (k := 21) (v := J (z22.2 0 21)) 91 cw1 (by decide) (tgs (show stc 0 = (1, 0) by decide) (by decide)) q544 same_f rfl dX0_ask_91 ?_
      obtain ⟨g24, h⟩ := gd_e h
      refine gx_iald 94 (tgs (show stc 39 = (101, 6) by decide) (by decide)) (oks (show stc 39 = (101, 6) by decide) (by decide) g24) dX0_ask_94 ?_
      refine gx_i2l 95 dX0_ask_95 ?_
      obtain ⟨g25, h⟩ := gd_e h
      obtain ⟨s26, es26, h⟩ := bnd_e h
      refine gx_last 96 (tgs (show stc 12 = (104, 9) by decide) (by decide)) (st0 (show stc 12 = (104, 9) by decide) (by decide)) (stm (show stc 12 = (104, 9) by decide) (by decide)) (oks (show stc 12 = (104, 9) by decide) (by decide) g25) es26 dX0_ask_96 ?_
      refine gx_aload_n 97 0 dX0_ask_97 rfl ?_
      refine gx_get (t := 1) (k := 7) (v := .ref (ad x0 11)) 98 cw1 (by decide) (tgs (show stc 0 = (1, 0) by decide) (by decide)) q528 same_f (rf_ne (nes (show stc 11 = (5, 0) by decide) (by decide))) dX0_ask_98 ?_
      refine gx_getN (t := 5) (k := 0) (v := .ref (ad x0 12)) 101 cw5 (by decide) (tgs (show stc 11 = (5, 0) by decide) (by decide)) q386 same_f (rf_ne (nes (show stc 12 = (104, 9) by decide) (by decide))) dX0_ask_101 ?_
      refine gx_iconst 104 dX0_ask_104 ?_
      refine gx_aload_n 105 0 dX0_ask_105 rfl ?_
      refine gx_get (t := 1) (k := 11) (v := .ref (ad x0 36)) 106 cw1 (by decide) (tgs (show stc 0 = (1, 0) by decide) (by decide)) q534 same_f (rf_ne (nes (show stc 36 = (8, 6) by decide) (by decide))) dX0_ask_106 ?_
      refine gx_getN (t := 8) (k := 0) (v := J (s26 36 0)) 109 cw8 (by decide) (tgs (show stc 36 = (8, 6) by decide) (by decide)) q474 same_f rfl dX0_ask_109 ?_
      refine gx_i2l 112 dX0_ask_112 ?_
      obtain ⟨g27, h⟩ := gd_e h
      obtain ⟨s28, es28, h⟩ := bnd_e h
      refine gx_last 113 (tgs (show stc 12 = (104, 9) by decide) (by decide)) (st0 (show stc 12 = (104, 9) by decide) (by decide)) (stm (show stc 12 = (104, 9) by decide) (by decide)) (oks (show stc 12 = (104, 9) by decide) (by decide) g27) es28 dX0_ask_113 ?_
      refine gx_aload_n 114 0 dX0_ask_114 rfl ?_
      refine gx_get (t := 1) (k := 7) (v := .ref (ad x0 11)) 115 cw1 (by decide) (tgs (show stc 0 = (1, 0) by decide) (by decide)) q528 same_f (rf_ne (nes (show stc 11 = (5, 0) by decide) (by decide))) dX0_ask_115 ?_
      refine gx_getN (t := 5) (k := 0) (v := .ref (ad x0 12)) 118 cw5 (by decide) (tgs (show stc 11 = (5, 0) by decide) (by decide)) q386 same_f (rf_ne (nes (show stc 12 = (104, 9) by decide) (by decide))) dX0_ask_118 ?_
      refine gx_iconst 121 dX0_ask_121 ?_
      refine gx_aload_n 122 0 dX0_ask_122 rfl ?_
      refine gx_get (t := 1) (k := 21) (v := J (s28 0 21)) 123 cw1 (by decide) (tgs (show stc 0 = (1, 0) by decide) (by decide)) q544 same_f rfl dX0_ask_123 ?_
      refine gx_i2l 126 dX0_ask_126 ?_
      obtain ⟨g29, h⟩ := gd_e h
      obtain ⟨s30, es30, h⟩ := bnd_e h
      refine gx_last 127 (tgs (show stc 12 = (104, 9) by decide) (by decide)) (st0 (show stc 12 = (104, 9) by decide) (by decide)) (stm (show stc 12 = (104, 9) by decide) (by decide)) (oks (show stc 12 = (104, 9) by decide) (by decide) g29) es30 dX0_ask_127 ?_
      refine gx_aload_n 128 0 dX0_ask_128 rfl ?_
      refine gx_get (t := 1) (k := 7) (v := .ref (ad x0 11)) 129 cw1 (by decide) (tgs (show stc 0 = (1, 0) by decide) (by decide)) q528 same_f (rf_ne (nes (show stc 11 = (5, 0) by decide) (by decide))) dX0_ask_129 ?_
      refine gx_getN (t := 5) (k := 0) (v := .ref (ad x0 12)) 132 cw5 (by decide) (tgs (show stc 11 = (5, 0) by decide) (by decide)) q386 same_f (rf_ne (nes (show stc 12 = (104, 9) by decide) (by decide))) dX0_ask_132 ?_
      refine gx_bipush 135 dX0_ask_135 (by decide) ?_
      refine gx_aload_n 137 0 dX0_ask_137 rfl ?_
      refine gx_get (t := 1) (k := 11) (v := .ref (ad x0 36)) 138 cw1 (by decide) (tgs (show stc 0 = (1, 0) by decide) (by decide)) q534 same_f (rf_ne (nes (show stc 36 = (8, 6) by decide) (by decide))) dX0_ask_138 ?_
      refine gx_getN (t := 8) (k := 3) (v := .ref (ad x0 37)) 141 cw8 (by decide) (tgs (show stc 36 = (8, 6) by decide) (by decide)) q481 same_f (rf_ne (nes (show stc 37 = (101, 6) by decide) (by decide))) dX0_ask_141 ?_
      refine gx_aload_n 144 0 dX0_ask_144 rfl ?_
      refine gx_get (t := 1) (k := 21) (v := J (s30 0 21)) 145 cw1 (by decide) (tgs (show stc 0 = (1, 0) by decide) (by decide)) q544 same_f rfl dX0_ask_145 ?_
      obtain ⟨g31, h⟩ := gd_e h
      refine gx_iald 148 (tgs (show stc 37 = (101, 6) by decide) (by decide)) (oks (show stc 37 = (101, 6) by decide) (by decide) g31) dX0_ask_148 ?_
      refine gx_i2l 149 dX0_ask_149 ?_
      obtain ⟨g32, h⟩ := gd_e h
      obtain ⟨s33, es33, h⟩ := bnd_e h
      refine gx_last 150 (tgs (show stc 12 = (104, 9) by decide) (by decide)) (st0 (show stc 12 = (104, 9) by decide) (by decide)) (stm (show stc 12 = (104, 9) by decide) (by decide)) (oks (show stc 12 = (104, 9) by decide) (by decide) g32) es33 dX0_ask_150 ?_
      refine gx_aload_n 151 0 dX0_ask_151 rfl ?_
      refine gx_get (t := 1) (k := 7) (v := .ref (ad x0 11)) 152 cw1 (by decide) (tgs (show stc 0 = (1, 0) by decide) (by decide)) q528 same_f (rf_ne (nes (show stc 11 = (5, 0) by decide) (by decide))) dX0_ask_152 ?_
      refine gx_getN (t := 5) (k := 0) (v := .ref (ad x0 12)) 155 cw5 (by decide) (tgs (show stc 11 = (5, 0) by decide) (by decide)) q386 same_f (rf_ne (nes (show stc 12 = (104, 9) by decide) (by decide))) dX0_ask_155 ?_
      refine gx_bipush 158 dX0_ask_158 (by decide) ?_
      refine gx_aload_n 160 0 dX0_ask_160 rfl ?_
      refine gx_get (t := 1) (k := 11) (v := .ref (ad x0 36)) 161 cw1 (by decide) (tgs (show stc 0 = (1, 0) by decide) (by decide)) q534 same_f (rf_ne (nes (show stc 36 = (8, 6) by decide) (by decide))) dX0_ask_161 ?_
      refine gx_getN (t := 8) (k := 4) (v := .ref (ad x0 38)) 164 cw8 (by decide) (tgs (show stc 36 = (8, 6) by decide) (by decide)) q484 same_f (rf_ne (nes (show stc 38 = (101, 6) by decide) (by decide))) dX0_ask_164 ?_
      refine gx_aload_n 167 0 dX0_ask_167 rfl ?_
      refine gx_get (t := 1) (k := 21) (v := J (s33 0 21)) 168 cw1 (by decide) (tgs (show stc 0 = (1, 0) by decide) (by decide)) q544 same_f rfl dX0_ask_168 ?_
      obtain ⟨g34, h⟩ := gd_e h
      refine gx_iald 171 (tgs (show stc 38 = (101, 6) by decide) (by decide)) (oks (show stc 38 = (101, 6) by decide) (by decide) g34) dX0_ask_171 ?_
      refine gx_i2l 172 dX0_ask_172 ?_
      obtain ⟨g35, h⟩ := gd_e h
      obtain ⟨s36, es36, h⟩ := bnd_e h
      refine gx_last 173 (tgs (show stc 12 = (104, 9) by decide) (by decide)) (st0 (show stc 12 = (104, 9) by decide) (by decide)) (stm (show stc 12 = (104, 9) by decide) (by decide)) (oks (show stc 12 = (104, 9) by decide) (by decide) g35) es36 dX0_ask_173 ?_
      refine gx_aload_n 174 0 dX0_ask_174 rfl ?_
      refine gx_get (t := 1) (k := 7) (v := .ref (ad x0 11)) 175 cw1 (by decide) (tgs (show stc 0 = (1, 0) by decide) (by decide)) q528 same_f (rf_ne (nes (show stc 11 = (5, 0) by decide) (by decide))) dX0_ask_175 ?_
      refine gx_getN (t := 5) (k := 0) (v := .ref (ad x0 12)) 178 cw5 (by decide) (tgs (show stc 11 = (5, 0) by decide) (by decide)) q386 same_f (rf_ne (nes (show stc 12 = (104, 9) by decide) (by decide))) dX0_ask_178 ?_
      refine gx_bipush 181 dX0_ask_181 (by decide) ?_
      refine gx_aload_n 183 0 dX0_ask_183 rfl ?_
      refine gx_aload_n 184 0 dX0_ask_184 rfl ?_
      refine gx_get (t := 1) (k := 21) (v := J (s36 0 21)) 185 cw1 (by decide) (tgs (show stc 0 = (1, 0) by decide) (by decide)) q544 same_f rfl dX0_ask_185 ?_
      obtain ⟨z37, ez37, h⟩ := opt_e h
      refine gx_callV (As := [J (s36 0 21)]) (rest := [J 8, .ref (ad x0 12)]) (st' := [J z37.1, J 8, .ref (ad x0 12)]) 188 1 cw1 (tgs (show stc 0 = (1, 0) by decide) (by decide)) (mx0_gets ez37 l) (lw_V q1350 q1352 qs36 q147 q1353) (by decide +kernel) (by decide) rfl rfl (Nat.le_of_ble_eq_true rfl) dX0_ask_188 rfl ?_
      refine gx_i2l 191 dX0_ask_191 ?_
      obtain ⟨g38, h⟩ := gd_e h
      obtain ⟨s39, es39, h⟩ := bnd_e h
      refine gx_last 192 (tgs (show stc 12 = (104, 9) by decide) (by decide)) (st0 (show stc 12 = (104, 9) by decide) (by decide)) (stm (show stc 12 = (104, 9) by decide) (by decide)) (oks (show stc 12 = (104, 9) by decide) (by decide) g38) es39 dX0_ask_192 ?_
      refine gx_aload_n 193 1 dX0_ask_193 rfl ?_
      refine gx_aload_n 194 0 dX0_ask_194 rfl ?_
      refine gx_get (t := 1) (k := 21) (v := J (s39 0 21)) 195 cw1 (by decide) (tgs (show stc 0 = (1, 0) by decide) (by decide)) q544 same_f rfl dX0_ask_195 ?_
      refine gx_aload_n 198 0 dX0_ask_198 rfl ?_
      refine gx_get (t := 1) (k := 7) (v := .ref (ad x0 11)) 199 cw1 (by decide) (tgs (show stc 0 = (1, 0) by decide) (by decide)) q528 same_f (rf_ne (nes (show stc 11 = (5, 0) by decide) (by decide))) dX0_ask_199 ?_
      obtain ⟨g41, h⟩ := gd_e h
      obtain ⟨z40, ez40, h⟩ := opt_e h
      refine gx_callV (As := [J (s39 0 21), .ref (ad x0 11)]) (rest := []) (st' := []) 202 2 cw20 g41 (mx23_meets ez40 l) (lw_V q1703 q1704 q1705 q188 q1706) (by decide +kernel) (by decide) rfl rfl (Nat.le_of_ble_eq_true rfl) dX0_ask_202 rfl ?_
      refine gx_aload_n 205 0 dX0_ask_205 rfl ?_
      refine gx_dup 206 dX0_ask_206 rfl ?_
      refine gx_get (t := 1) (k := 21) (v := J (z40.2 0 21)) 207 cw1 (by decide) (tgs (show stc 0 = (1, 0) by decide) (by decide)) q544 same_f rfl dX0_ask_207 ?_
      refine gx_iconst 210 dX0_ask_210 ?_
      refine gx_iadd 211 dX0_ask_211 ?_
      obtain ⟨s42, es42, h⟩ := bnd_e h
      refine gx_put (t := 1) (k := 21) (x := ((z40.2 0 21) + 1)) (ty := .int) 212 cw1 (by decide) (tgs (show stc 0 = (1, 0) by decide) (by decide)) (st0 (show stc 0 = (1, 0) by decide) (by decide)) (stm (show stc 0 = (1, 0) by decide) (by decide)) q544 same_f rfl (by decide +kernel) rfl rfl (congrArg J (ux_s _ _ _ _)) es42 dX0_ask_212 ?_
      refine gx_goto 215 64 dX0_ask_215 (by decide) ?_
      refine gx_sub [0, 1] rfl ?_
      exact ih _ _ h
theorem mx0_ask {x0 : Nat} {D : XD} {s0 : XS} {res : Int × XS} (h : x0_ask s0 = some res) (l : Launch) : XMetW l yX0_ask cX0_ask 4 (some .long) [(26, 35, 38, 137)] 1082 true x0 D [.ref (ad x0 0)] s0 2 res := by
  refine XMetW.ofn [(0, .ref (ad x0 0))] "VerbAtDusk" "ask" rfl rfl (plainFor_of_name (by decide)) (Nat.le_of_ble_eq_true rfl) rfl rfl ?_
  unfold x0_ask at h
  generalize nC s0 = cN
  generalize nS s0 = sN
  refine gx_aload_n 0 0 dX0_ask_0 rfl ?_
  obtain ⟨z1, ez1, h⟩ := opt_e h
  refine gx_callV (As := []) (rest := []) (st' := [J z1.1]) 1 0 cw1 (tgs (show stc 0 = (1, 0) by decide) (by decide)) (mx0_taken ez1 l) (lw_V q617 q619 qs3 q147 q620) (by decide +kernel) (by decide) rfl rfl (Nat.le_of_ble_eq_true rfl) dX0_ask_1 rfl ?_
  obtain ⟨x1_2, ex1_2, h⟩ := bnd_e h
  refine gx_istore_n 4 [(1, J x1_2), (0, .ref (ad x0 0))] dX0_ask_4 (by decide) ex1_2 rfl ?_
  refine gx_aload_n 5 1 dX0_ask_5 rfl ?_
  obtain ⟨z3, ez3, h⟩ := opt_e h
  refine gx_callV (As := []) (rest := []) (st' := [J z3.1]) 6 0 cw1 (tgs (show stc 0 = (1, 0) by decide) (by decide)) (mx0_isCountry ez3 l) (lw_V q1516 q1518 qs42 q147 q1519) (by decide +kernel) (by decide) rfl rfl (Nat.le_of_ble_eq_true rfl) dX0_ask_6 rfl ?_
  refine gx_if_ne 9 16 dX0_ask_9 (by decide) (fun c4 => ?_) (fun c4 => ?_)
  · replace h := if_f h c4
    refine gx_aload_n 16 1 dX0_ask_16 rfl ?_
    refine gx_iconst 17 dX0_ask_17 ?_
    obtain ⟨s5, es5, h⟩ := bnd_e h
    refine gx_put (t := 1) (k := 3) (x := 0) (ty := .int) 18 cw1 (by decide) (tgs (show stc 0 = (1, 0) by decide) (by decide)) (st0 (show stc 0 = (1, 0) by decide) (by decide)) (stm (show stc 0 = (1, 0) by decide) (by decide)) q523 same_f rfl (by decide +kernel) rfl rfl (congrArg J (ux_s _ _ _ _)) es5 dX0_ask_18 ?_
    refine gx_aload_n 21 1 dX0_ask_21 rfl ?_
    refine gx_iconst 22 dX0_ask_22 ?_
    obtain ⟨s6, es6, h⟩ := bnd_e h
    refine gx_put (t := 1) (k := 4) (x := (-1)) (ty := .int) 23 cw1 (by decide) (tgs (show stc 0 = (1, 0) by decide) (by decide)) (st0 (show stc 0 = (1, 0) by decide) (by decide)) (stm (show stc 0 = (1, 0) by decide) (by decide)) q524 same_f rfl (by decide +kernel) rfl rfl (congrArg J (ux_s _ _ _ _)) es6 dX0_ask_23 ?_
    refine gx_aload_n 26 1 dX0_ask_26 rfl ?_
    refine gx_get (t := 1) (k := 5) (v := .ref (ad x0 7)) 27 cw1 (by decide) (tgs (show stc 0 = (1, 0) by decide) (by decide)) q525 same_f (rf_ne (nes (show stc 7 = (3, 0) by decide) (by decide))) dX0_ask_27 ?_
    refine gx_iload_n 30 0 dX0_ask_30 rfl ?_
    obtain ⟨j13, ej13, h⟩ := bnd_e h
    have hj13 : ∀ (s7 : XS), j13 s7 = some res → GX l cX0_ask "VerbAtDusk" 4 (some .long) "ask" [⟨26, 35, 38, 137⟩] x0 D true 2 1082 cN sN (0, res) s7 38 [(0, .ref (ad x0 0))] [.ref (ad x0 8)] := by
      clear h
      intro s7 h
      subst ej13
      obtain ⟨x3_8, ex3_8, h⟩ := bnd_e h
      refine gx_astore_nv 38 [(3, .ref (ad x0 x3_8)), (0, .ref (ad x0 0))] dX0_ask_38 (by decide) ex3_8 rfl ?_
      refine gx_aload_n 39 1 dX0_ask_39 rfl ?_
      refine gx_aload_n 40 0 dX0_ask_40 rfl ?_
      obtain ⟨g9, h⟩ := gd_e h
      refine gx_getN (t := 4) (k := 6) (v := J (s7 x3_8 6)) 41 cw4 (by decide) g9 q331 same_f rfl dX0_ask_41 ?_
      obtain ⟨s10, es10, h⟩ := bnd_e h
      refine gx_put (t := 1) (k := 3) (x := (s7 x3_8 6)) (ty := .int) 44 cw1 (by decide) (tgs (show stc 0 = (1, 0) by decide) (by decide)) (st0 (show stc 0 = (1, 0) by decide) (by decide)) (stm (show stc 0 = (1, 0) by decide) (by decide)) q523 same_f rfl (by decide +kernel) rfl rfl (congrArg J (ux_s _ _ _ _)) es10 dX0_ask_44 ?_
      refine gx_aload_n 47 1 dX0_ask_47 rfl ?_
      refine gx_aload_n 48 0 dX0_ask_48 rfl ?_
      obtain ⟨g11, h⟩ := gd_e h
      refine gx_getN (t := 4) (k := 7) (v := J (s10 x3_8 7)) 49 cw4 (by decide) g11 q333 same_f rfl dX0_ask_49 ?_
      obtain ⟨s12, es12, h⟩ := bnd_e h
      refine gx_put (t := 1) (k := 4) (x := (s10 x3_8 7)) (ty := .int) 52 cw1 (by decide) (tgs (show stc 0 = (1, 0) by decide) (by decide)) (st0 (show stc 0 = (1, 0) by decide) (by decide)) (stm (show stc 0 = (1, 0) by decide) (by decide)) q524 same_f rfl (by decide +kernel) rfl rfl (congrArg J (ux_s _ _ _ _)) es12 dX0_ask_52 ?_
      refine gx_ldc2 (v := -1000000000000000) 55 dX0_ask_55 q1507 (by decide) ?_
      exact gx_lret 58 dX0_ask_58 (rt h)
    obtain ⟨z14, ez14, h⟩ := opt_e h
    by_cases c15 : z14.1 = 0
    rotate_left
    · replace h := if_f h c15
      refine gx_callTC (x9 := ⟨26, 35, 38, 137⟩) (As := [J x1_2]) (rest := []) 31 1 rfl (by decide) (by decide) q616 cw3 (tgs (show stc 7 = (3, 0) by decide) (by decide)) c15 (mx2_question ez14 l) (lw_V q1674 q1675 q1676 q152 q1677) (by decide +kernel) (by decide) rfl rfl (Nat.le_of_ble_eq_true rfl) dX0_ask_31 ?_
      refine gx_sub [1] rfl ?_
      exact hj13 _ h
    replace h := if_t h c15
    refine gx_callT (As := [J x1_2]) (rest := []) (st' := [.ref (ad x0 z14.2.1)]) 31 1 cw3 (tgs (show stc 7 = (3, 0) by decide) (by decide)) c15 (mx2_question ez14 l) (lw_V q1674 q1675 q1676 q152 q1677) (by decide +kernel) (by decide) rfl rfl (Nat.le_of_ble_eq_true rfl) dX0_ask_31 rfl ?_
    obtain ⟨x2_16, ex2_16, h⟩ := bnd_e h
    refine gx_astore_nv 34 [(2, .ref (ad x0 x2_16)), (1, J x1_2), (0, .ref (ad x0 0))] dX0_ask_34 (by decide) ex2_16 rfl ?_
    refine gx_goto 35 59 dX0_ask_35 (by decide) ?_
    refine gx_aload_n 59 2 dX0_ask_59 rfl ?_
    refine gx_iconst 60 dX0_ask_60 ?_
    obtain ⟨s17, es17, h⟩ := bnd_e h
    refine gx_put (t := 1) (k := 21) (x := 0) (ty := .int) 61 cw1 (by decide) (tgs (show stc 0 = (1, 0) by decide) (by decide)) (st0 (show stc 0 = (1, 0) by decide) (by decide)) (stm (show stc 0 = (1, 0) by decide) (by decide)) q544 same_f rfl (by decide +kernel) rfl rfl (congrArg J (ux_s _ _ _ _)) es17 dX0_ask_61 ?_
    refine gx_sub [2, 0] rfl ?_
    refine wx0_ask_L64 (fun x2_43 s44 h => ?_) FU _ _ h
    · refine gx_aload_n 218 0 dX0_ask_218 rfl ?_
      obtain ⟨g46, h⟩ := gd_e h
      obtain ⟨z45, ez45, h⟩ := opt_e h
      refine gx_callV (As := []) (rest := []) (st' := [Lg z45.1]) 219 0 cw20 g46 (mx23_answer ez45 l) (lw_V q1711 q1712 q1713 q188 q1714) (by decide +kernel) (by decide) rfl rfl (Nat.le_of_ble_eq_true rfl) dX0_ask_219 rfl ?_
      exact gx_lret 222 dX0_ask_222 (rt h)
  · replace h := if_t h c4
    refine gx_ldc2 (v := -1000000000000000) 12 dX0_ask_12 q1507 (by decide) ?_
    exact gx_lret 15 dX0_ask_15 (rt h)
