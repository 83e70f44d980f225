/-! THE SYSTEM: methods as functions, and their walks (written by xparts.py) -/
set_option maxRecDepth 100000
/-! VerbAtDusk$Walk.goes -/
noncomputable def x5_goes_B_L71 (rc : Int → Int → Int → Int → Int → Int → XS → Option (Int × XS)) (a1 : Int) (k182 : XS → Option (Int × XS)) : Nat → Int → Int → Int → Int → Int → Int → XS → Option (Int × XS)
  | 0, _, _, _, _, _, _, _ => none
  | n + 1, x2_10, x3_11, x4_12, x5_13, x6_14, x7_15, s16 =>
    Option.bind (x0_sayings s16) fun z18 =>
    if i32 z18.1 ≤ i32 x7_15 then
      k182 z18.2
    else
      Option.bind (x0_has x6_14 x7_15 z18.2) fun z20 =>
      bnd (fun (x2_21 : Int) (x3_22 : Int) (x4_23 : Int) (x5_24 : Int) (x6_25 : Int) (x7_26 : Int) (s27 : XS) =>
          bnd (x7_26 + 1) fun x7_28 =>
          x5_goes_B_L71 rc a1 k182 n x2_21 x3_22 x4_23 x5_24 x6_25 x7_28 s27) fun j29 =>
      if i32 z20.1 = 0 then
        j29 x2_10 x3_11 x4_12 x5_13 x6_14 x7_15 z20.2
      else
        gd (ok 6 x7_15) <|
        Option.bind (j12_abs true ((z20.2 (a1 + 1) (i32 x7_15)) - x4_12) z20.2) fun z32 =>
        gd (ok 6 x7_15) <|
        Option.bind (j12_abs true ((z32.2 (a1 + 2) (i32 x7_15)) - x5_13) z32.2) fun z34 =>
        bnd ((x3_11 + z32.1) + z34.1) fun x8_35 =>
        gd (ok 6 x2_10) <|
        bnd (ux z34.2 17 (i32 x2_10) x7_15) fun s37 =>
        gd (ok 6 x2_10) <|
        bnd (ux s37 18 (i32 x2_10) x8_35) fun s39 =>
        gd (ok 6 x7_15) <|
        gd (ok 6 x7_15) <|
        Option.bind (rc a1 (x2_10 + 1) x8_35 (s39 (a1 + 1) (i32 x7_15)) (s39 (a1 + 2) (i32 x7_15)) (iand x6_14 (ixor (ishl 1 x7_15) (-1))) s39) fun z42 =>
        j29 x2_10 x3_11 x4_12 x5_13 x6_14 x7_15 z42.2
noncomputable def x5_goes_B_L22 (rc : Int → Int → Int → Int → Int → Int → XS → Option (Int × XS)) (a1 : Int) (k67 : XS → Option (Int × XS)) : Nat → Int → Int → XS → Option (Int × XS)
  | 0, _, _, _ => none
  | n + 1, x2_46, x7_47, s48 =>
    if i32 x2_46 ≤ i32 x7_47 then
      k67 s48
    else
      gd (ok 6 x7_47) <|
      gd (ok 6 x7_47) <|
      bnd (ux s48 15 (i32 x7_47) (s48 17 (i32 x7_47))) fun s53 =>
      gd (ok 6 x7_47) <|
      gd (ok 6 x7_47) <|
      gd (ok 6 (s53 17 (i32 x7_47))) <|
      bnd (ux s53 16 (i32 (s53 17 (i32 x7_47))) (s53 18 (i32 x7_47))) fun s57 =>
      bnd (x7_47 + 1) fun x7_58 =>
      x5_goes_B_L22 rc a1 k67 n x2_46 x7_58 s57
noncomputable def x5_goes_B (rc : Int → Int → Int → Int → Int → Int → XS → Option (Int × XS)) (a1 : Int) (a2 : Int) (a3 : Int) (a4 : Int) (a5 : Int) (a6 : Int) (s0 : XS) : Option (Int × XS) :=
  gd (isSt a1) <|
  if i32 a3 < i32 (s0 14 4) then
    if i32 a6 = 0 then
      bnd (ux s0 14 4 a3) fun s44 =>
      bnd 0 fun x7_45 =>
      x5_goes_B_L22 rc a1
        (fun (s59 : XS) =>
          some (0, s59))
        FU a2 x7_45 s44
    else
      bnd 0 fun x7_9 =>
      x5_goes_B_L71 rc a1
        (fun (s43 : XS) =>
          some (0, s43))
        FU a2 a3 a4 a5 a6 x7_9 s0
  else
    some (0, s0)
noncomputable def x5_goes : Nat → Int → Int → Int → Int → Int → Int → XS → Option (Int × XS)
  | 0, _, _, _, _, _, _, _ => none
  | n + 1, v0_, v1_, v2_, v3_, v4_, v5_, t_ => x5_goes_B (x5_goes n) v0_ v1_ v2_ v3_ v4_ v5_ t_
theorem wx5_goes_B_L71 {l : Launch} {x0 : Nat} {D : XD} {cN sN : Nat} {res : Int × XS} {rc : Int → Int → Int → Int → Int → Int → XS → Option (Int × XS)} {d : Nat} (hrc : ∀ (v0_ v1_ v2_ v3_ v4_ v5_ : Int) (t_ : XS) (z_ : Int × XS), rc v0_ v1_ v2_ v3_ v4_ v5_ t_ = some z_ → XMet0 l yX5_goes cX5_goes 9 none d true x0 D [.ref (ad x0 14), .ref (ad x0 v0_), J v1_, J v2_, J v3_, J v4_, J v5_] t_ 0 z_) {a1 : Int} (ga1 : isSt a1) {k182 : XS → Option (Int × XS)} (hk182 : ∀ (s17 : XS), k182 s17 = some res → GX l cX5_goes "VerbAtDusk$Walk" 9 none "goes" [] x0 D true 0 (d + 3) cN sN (0, res) s17 182 [] []) : ∀ (n : Nat) (x2_10 : Int) (x3_11 : Int) (x4_12 : Int) (x5_13 : Int) (x6_14 : Int) (x7_15 : Int) (s16 : XS), x5_goes_B_L71 rc a1 k182 n x2_10 x3_11 x4_12 x5_13 x6_14 x7_15 s16 = some res → GX l cX5_goes "VerbAtDusk$Walk" 9 none "goes" [] x0 D true 0 (d + 3) cN sN (0, res) s16 71 [(0, .ref (ad x0 14)), (1, .ref (ad x0 a1)), (2, J x2_10), (3, J x3_11), (4, J x4_12), (5, J x5_13), (6, J x6_14), (7, J x7_15)] [] := by
  intro n
  induction n with
  | zero =>
    intro x2_10 x3_11 x4_12 x5_13 x6_14 x7_15 s16 h
    cases h
  | succ n ih =>
    intro x2_10 x3_11 x4_12 x5_13 x6_14 x7_15 s16 h
    rw [x5_goes_B_L71] at h
    refine gx_iload 71 7 dX5_goes_71 rfl ?_
    refine gx_aload_n 73 0 dX5_goes_73 rfl ?_
    refine gx_get (t := 6) (k := 5) (v := .ref (ad x0 0)) 74 cw6 (by decide) (tgs (show stc 14 = (6, 0) by decide) (by decide)) q404 same_f (rf_ne (nes (show stc 0 = (1, 0) by decide) (by decide))) dX5_goes_74 ?_
    obtain ⟨z18, ez18, h⟩ := opt_e h
    refine gx_callVN (As := []) (rest := [J x7_15]) (st' := [J z18.1, J x7_15]) 77 0 cw1 (tgs (show stc 0 = (1, 0) by decide) (by decide)) (mx0_sayings ez18 l) q1291 q147 q1475 q1290 qs33 (by decide +kernel) (by omega) rfl rfl (Nat.le_of_ble_eq_true rfl) dX5_goes_77 rfl ?_
    refine gx_icmp_ge 80 182 dX5_goes_80 (by decide) (fun c19 => ?_) (fun c19 => ?_)
    · replace h := if_t h c19
      refine gx_sub [] rfl ?_
      exact hk182 _ h
    · replace h := if_f h c19
      refine gx_iload 83 6 dX5_goes_83 rfl ?_
      refine gx_iload 85 7 dX5_goes_85 rfl ?_
      obtain ⟨z20, ez20, h⟩ := opt_e h
      refine gx_callSN (As := [J x6_14, J x7_15]) (rest := []) (st' := [J z20.1]) 87 2 (mx0_has ez20 l) q1011 q147 q1480 q1010 (by decide +kernel) (by omega) rfl rfl (Nat.le_of_ble_eq_true rfl) dX5_goes_87 rfl ?_
      obtain ⟨j29, ej29, h⟩ := bnd_e h
      have hj29 : ∀ (x2_21 : Int) (x3_22 : Int) (x4_23 : Int) (x5_24 : Int) (x6_25 : Int) (x7_26 : Int) (s27 : XS), j29 x2_21 x3_22 x4_23 x5_24 x6_25 x7_26 s27 = some res → GX l cX5_goes "VerbAtDusk$Walk" 9 none "goes" [] x0 D true 0 (d + 3) cN sN (0, res) s27 176 [(0, .ref (ad x0 14)), (1, .ref (ad x0 a1)), (2, J x2_21), (3, J x3_22), (4, J x4_23), (5, J x5_24), (6, J x6_25), (7, J x7_26)] [] := by
        clear h
        intro x2_21 x3_22 x4_23 x5_24 x6_25 x7_26 s27 h
        subst ej29
        obtain ⟨x7_28, ex7_28, h⟩ := bnd_e h
        refine gx_iinc 176 7 [(7, J x7_28), (0, .ref (ad x0 14)), (1, .ref (ad x0 a1)), (2, J x2_21), (3, J x3_22), (4, J x4_23), (5, J x5_24), (6, J x6_25)] dX5_goes_176 rfl ex7_28 (by decide) rfl ?_
        refine gx_goto 179 71 dX5_goes_179 (by decide) ?_
        refine gx_sub [1, 2, 3, 4, 5, 6, 7, 0] rfl ?_
        exact ih _ _ _ _ _ _ _ h
      refine gx_if_ne 90 96 dX5_goes_90 (by decide) (fun c30 => ?_) (fun c30 => ?_)
      · replace h := if_f h c30
        refine gx_iload_n 96 3 dX5_goes_96 rfl ?_
        refine gx_aload_n 97 1 dX5_goes_97 rfl ?_
        refine gx_getN (t := 8) (k := 3) (v := .ref (ad x0 (a1 + 1))) 98 cw8 (by decide) (tgs (st_0 ga1) (by decide)) q480 same_f (rf_ne (nes (st_1 ga1) (by decide))) dX5_goes_98 ?_
        refine gx_iload 101 7 dX5_goes_101 rfl ?_
        obtain ⟨g31, h⟩ := gd_e h
        refine gx_iald 103 (tgs (st_1 ga1) (by decide)) (oks (st_1 ga1) (by decide) g31) dX5_goes_103 ?_
        refine gx_iload 104 4 dX5_goes_104 rfl ?_
        refine gx_isub 106 dX5_goes_106 ?_
        obtain ⟨z32, ez32, h⟩ := opt_e h
        refine gx_callS (As := [J ((z20.2 (a1 + 1) (i32 x7_15)) - x4_12)]) (rest := [J x3_11]) (st' := [J z32.1, J x3_11]) 107 1 (mj12_abs ez32 l) (lw_S q1481 q1482 q170 q1483) (by decide +kernel) (by omega) rfl rfl (Nat.le_of_ble_eq_true rfl) dX5_goes_107 rfl ?_
        refine gx_iadd 110 dX5_goes_110 ?_
        refine gx_aload_n 111 1 dX5_goes_111 rfl ?_
        refine gx_getN (t := 8) (k := 4) (v := .ref (ad x0 (a1 + 2))) 112 cw8 (by decide) (tgs (st_0 ga1) (by decide)) q483 same_f (rf_ne (nes (st_2 ga1) (by decide))) dX5_goes_112 ?_
        refine gx_iload 115 7 dX5_goes_115 rfl ?_
        obtain ⟨g33, h⟩ := gd_e h
        refine gx_iald 117 (tgs (st_2 ga1) (by decide)) (oks (st_2 ga1) (by decide) g33) dX5_goes_117 ?_
        refine gx_iload 118 5 dX5_goes_118 rfl ?_
        refine gx_isub 120 dX5_goes_120 ?_
        obtain ⟨z34, ez34, h⟩ := opt_e h
        refine gx_callS (As := [J ((z32.2 (a1 + 2) (i32 x7_15)) - x5_13)]) (rest := [J (x3_11 + z32.1)]) (st' := [J z34.1, J (x3_11 + z32.1)]) 121 1 (mj12_abs ez34 l) (lw_S q1481 q1482 q170 q1483) (by decide +kernel) (by omega) rfl rfl (Nat.le_of_ble_eq_true rfl) dX5_goes_121 rfl ?_
        refine gx_iadd 124 dX5_goes_124 ?_
        obtain ⟨x8_35, ex8_35, h⟩ := bnd_e h
        refine gx_istore 125 [(8, J x8_35), (0, .ref (ad x0 14)), (1, .ref (ad x0 a1)), (2, J x2_10), (3, J x3_11), (4, J x4_12), (5, J x5_13), (6, J x6_14), (7, J x7_15)] dX5_goes_125 (by decide) ex8_35 rfl ?_
        refine gx_aload_n 127 1 dX5_goes_127 rfl ?_
        refine gx_get (t := 6) (k := 2) (v := .ref (ad x0 17)) 128 cw6 (by decide) (tgs (show stc 14 = (6, 0) by decide) (by decide)) q400 same_f (rf_ne (nes (show stc 17 = (101, 6) by decide) (by decide))) dX5_goes_128 ?_
        refine gx_iload_n 131 3 dX5_goes_131 rfl ?_
        refine gx_iload 132 8 dX5_goes_132 rfl ?_
        obtain ⟨g36, h⟩ := gd_e h
        obtain ⟨s37, es37, h⟩ := bnd_e h
        refine gx_iast 134 (tgs (show stc 17 = (101, 6) by decide) (by decide)) (st0 (show stc 17 = (101, 6) by decide) (by decide)) (stm (show stc 17 = (101, 6) by decide) (by decide)) (oks (show stc 17 = (101, 6) by decide) (by decide) g36) es37 dX5_goes_134 ?_
        refine gx_aload_n 135 1 dX5_goes_135 rfl ?_
        refine gx_get (t := 6) (k := 3) (v := .ref (ad x0 18)) 136 cw6 (by decide) (tgs (show stc 14 = (6, 0) by decide) (by decide)) q401 same_f (rf_ne (nes (show stc 18 = (101, 6) by decide) (by decide))) dX5_goes_136 ?_
        refine gx_iload_n 139 3 dX5_goes_139 rfl ?_
        refine gx_iload 140 0 dX5_goes_140 rfl ?_
        obtain ⟨g38, h⟩ := gd_e h
        obtain ⟨s39, es39, h⟩ := bnd_e h
        refine gx_iast 142 (tgs (show stc 18 = (101, 6) by decide) (by decide)) (st0 (show stc 18 = (101, 6) by decide) (by decide)) (stm (show stc 18 = (101, 6) by decide) (by decide)) (oks (show stc 18 = (101, 6) by decide) (by decide) g38) es39 dX5_goes_142 ?_
        refine gx_aload_n 143 1 dX5_goes_143 rfl ?_
        refine gx_aload_n 144 2 dX5_goes_144 rfl ?_
        refine gx_iload_n 145 3 dX5_goes_145 rfl ?_
        refine gx_iconst 146 dX5_goes_146 ?_
        refine gx_iadd 147 dX5_goes_147 ?_
        refine gx_iload 148 0 dX5_goes_148 rfl ?_
        refine gx_aload_n 150 2 dX5_goes_150 rfl ?_
        refine gx_getN (t := 8) (k := 3) (v := .ref (ad x0 (a1 + 1))) 151 cw8 (by decide) (tgs (st_0 ga1) (by decide)) q480 same_f (rf_ne (nes (st_1 ga1) (by decide))) dX5_goes_151 ?_
        refine gx_iload 154 8 dX5_goes_154 rfl ?_
        obtain ⟨g40, h⟩ := gd_e h
        refine gx_iald 156 (tgs (st_1 ga1) (by decide)) (oks (st_1 ga1) (by decide) g40) dX5_goes_156 ?_
        refine gx_aload_n 157 2 dX5_goes_157 rfl ?_
        refine gx_getN (t := 8) (k := 4) (v := .ref (ad x0 (a1 + 2))) 158 cw8 (by decide) (tgs (st_0 ga1) (by decide)) q483 same_f (rf_ne (nes (st_2 ga1) (by decide))) dX5_goes_158 ?_
        refine gx_iload 161 8 dX5_goes_161 rfl ?_
        obtain ⟨g41, h⟩ := gd_e h
        refine gx_iald 163 (tgs (st_2 ga1) (by decide)) (oks (st_2 ga1) (by decide) g41) dX5_goes_163 ?_
        refine gx_iload 164 7 dX5_goes_164 rfl ?_
        refine gx_iconst 166 dX5_goes_166 ?_
        refine gx_iload 167 8 dX5_goes_167 rfl ?_
        refine gx_ishl 169 dX5_goes_169 ?_
        refine gx_iconst 170 dX5_goes_170 ?_
        refine gx_ixor 171 dX5_goes_171 ?_
        refine gx_iand 172 dX5_goes_172 ?_
        obtain ⟨z42, ez42, h⟩ := opt_e h
        refine gx_callV (As := [.ref (ad x0 a1), J (x2_10 + 1), J x8_35, J (s39 (a1 + 1) (i32 x7_15)), J (s39 (a1 + 2) (i32 x7_15)), J (iand x6_14 (ixor (ishl 1 x7_15) (-1)))]) (rest := []) (st' := []) 173 6 cw6 (tgs (show stc 14 = (6, 0) by decide) (by decide)) (hrc _ _ _ _ _ _ _ _ ez42) (lw_V q1476 q1478 qs40 q158 q1479) (by decide +kernel) (by omega) rfl rfl (Nat.le_of_ble_eq_true rfl) dX5_goes_173 rfl ?_
        refine gx_sub [1, 2, 3, 4, 5, 6, 7, 8] rfl ?_
        exact hj29 _ _ _ _ _ _ _ h
      · replace h := if_t h c30
        refine gx_goto 93 176 dX5_goes_93 (by decide) ?_
        refine gx_sub [0, 1, 2, 3, 4, 5, 6, 7] rfl ?_
        exact hj29 _ _ _ _ _ _ _ h
theorem wx5_goes_B_L22 {l : Launch} {x0 : Nat} {D : XD} {cN sN : Nat} {res : Int × XS} {rc : Int → Int → Int → Int → Int → Int → XS → Option (Int × XS)} {d : Nat} (hrc : ∀ (v0_ v1_ v2_ v3_ v4_ v5_ : Int) (t_ : XS) (z_ : Int × XS), rc v0_ v1_ v2_ v3_ v4_ v5_ t_ = some z_ → XMet0 l yX5_goes cX5_goes 9 none d true x0 D [.ref (ad x0 14), .ref (ad x0 v0_), J v1_, J v2_, J v3_, J v4_, J v5_] t_ 0 z_) {a1 : Int} (ga1 : isSt a1) {k67 : XS → Option (Int × XS)} (hk67 : ∀ (s49 : XS), k67 s49 = some res → GX l cX5_goes "VerbAtDusk$Walk" 9 none "goes" [] x0 D true 0 (d + 3) cN sN (0, res) s49 67 [] []) : ∀ (n : Nat) (x2_46 : Int) (x7_47 : Int) (s48 : XS), x5_goes_B_L22 rc a1 k67 n x2_46 x7_47 s48 = some res → GX l cX5_goes "VerbAtDusk$Walk" 9 none "goes" [] x0 D true 0 (d + 3) cN sN (0, res) s48 22 [(0, .ref (ad x0 14)), (2, J x2_46), (7, J x7_47)] [] := by
  intro n
  induction n with
  | zero =>
    intro x2_46 x7_47 s48 h
    cases h
  | succ n ih =>
    intro x2_46 x7_47 s48 h
    rw [x5_goes_B_L22] at h
    refine gx_iload 22 2 dX5_goes_22 rfl ?_
    refine gx_iload_n 24 1 dX5_goes_24 rfl ?_
    refine gx_icmp_ge 25 67 dX5_goes_25 (by decide) (fun c50 => ?_) (fun c50 => ?_)
    · replace h := if_t h c50
      refine gx_sub [] rfl ?_
      exact hk67 _ h
    · replace h := if_f h c50
      refine gx_aload_n 28 0 dX5_goes_28 rfl ?_
      refine gx_get (t := 6) (k := 0) (v := .ref (ad x0 15)) 29 cw6 (by decide) (tgs (show stc 14 = (6, 0) by decide) (by decide)) q397 same_f (rf_ne (nes (show stc 15 = (101, 6) by decide) (by decide))) dX5_goes_29 ?_
      refine gx_iload 32 2 dX5_goes_32 rfl ?_
      refine gx_aload_n 34 0 dX5_goes_34 rfl ?_
      refine gx_get (t := 6) (k := 2) (v := .ref (ad x0 17)) 35 cw6 (by decide) (tgs (show stc 14 = (6, 0) by decide) (by decide)) q400 same_f (rf_ne (nes (show stc 17 = (101, 6) by decide) (by decide))) dX5_goes_35 ?_
      refine gx_iload 38 2 dX5_goes_38 rfl ?_
      obtain ⟨g51, h⟩ := gd_e h
      refine gx_iald 40 (tgs (show stc 17 = (101, 6) by decide) (by decide)) (oks (show stc 17 = (101, 6) by decide) (by decide) g51) dX5_goes_40 ?_
      obtain ⟨g52, h⟩ := gd_e h
      obtain ⟨s53, es53, h⟩ := bnd_e h
      refine gx_iast 41 (tgs (show stc 15 = (101, 6) by decide) (by decide)) (st0 (show stc 15 = (101, 6) by decide) (by decide)) (stm (show stc 15 = (101, 6) by decide) (by decide)) (oks (show stc 15 = (101, 6) by decide) (by decide) g52) es53 dX5_goes_41 ?_
      refine gx_aload_n 42 0 dX5_goes_42 rfl ?_
      refine gx_get (t := 6) (k := 1) (v := .ref (ad x0 16)) 43 cw6 (by decide) (tgs (show stc 14 = (6, 0) by decide) (by decide)) q399 same_f (rf_ne (nes (show stc 16 = (101, 6) by decide) (by decide))) dX5_goes_43 ?_
      refine gx_aload_n 46 0 dX5_goes_46 rfl ?_
      refine gx_get (t := 6) (k := 2) (v := .ref (ad x0 17)) 47 cw6 (by decide) (tgs (show stc 14 = (6, 0) by decide) (by decide)) q400 same_f (rf_ne (nes (show stc 17 = (101, 6) by decide) (by decide))) dX5_goes_47 ?_
      refine gx_iload 50 2 dX5_goes_50 rfl ?_
      obtain ⟨g54, h⟩ := gd_e h
      refine gx_iald 52 (tgs (show stc 17 = (101, 6) by decide) (by decide)) (oks (show stc 17 = (101, 6) by decide) (by decide) g54) dX5_goes_52 ?_
      refine gx_aload_n 53 0 dX5_goes_53 rfl ?_
      refine gx_get (t := 6) (k := 3) (v := .ref (ad x0 18)) 54 cw6 (by decide) (tgs (show stc 14 = (6, 0) by decide) (by decide)) q401 same_f (rf_ne (nes (show stc 18 = (101, 6) by decide) (by decide))) dX5_goes_54 ?_
      refine gx_iload 57 2 dX5_goes_57 rfl ?_
      obtain ⟨g55, h⟩ := gd_e h
      refine gx_iald 59 (tgs (show stc 18 = (101, 6) by decide) (by decide)) (oks (show stc 18 = (101, 6) by decide) (by decide) g55) dX5_goes_59 ?_
      obtain ⟨g56, h⟩ := gd_e h
      obtain ⟨s57, es57, h⟩ := bnd_e h
      refine gx_iast 60 (tgs (show stc 16 = (101, 6) by decide) (by decide)) (st0 (show stc 16 = (101, 6) by decide) (by decide)) (stm (show stc 16 = (101, 6) by decide) (by decide)) (oks (show stc 16 = (101, 6) by decide) (by decide) g56) es57 dX5_goes_60 ?_
      obtain ⟨x7_58, ex7_58, h⟩ := bnd_e h
      refine gx_iinc 61 2 [(7, J x7_58), (0, .ref (ad x0 14)), (2, J x2_46)] dX5_goes_61 rfl ex7_58 (by decide) rfl ?_
      refine gx_goto 64 22 dX5_goes_64 (by decide) ?_
      refine gx_sub [1, 2, 0] rfl ?_
      exact ih _ _ _ h
theorem mx5_goes_B {rc : Int → Int → Int → Int → Int → Int → XS → Option (Int × XS)} {d : Nat} {x0 : Nat} {D : XD} {a1 : Int} {a2 : Int} {a3 : Int} {a4 : Int} {a5 : Int} {a6 : Int} {s0 : XS} {res : Int × XS} {l : Launch} (hrc : ∀ (v0_ v1_ v2_ v3_ v4_ v5_ : Int) (t_ : XS) (z_ : Int × XS), rc v0_ v1_ v2_ v3_ v4_ v5_ t_ = some z_ → XMet0 l yX5_goes cX5_goes 9 none d true x0 D [.ref (ad x0 14), .ref (ad x0 v0_), J v1_, J v2_, J v3_, J v4_, J v5_] t_ 0 z_) (h : x5_goes_B rc a1 a2 a3 a4 a5 a6 s0 = some res) : XMet0 l yX5_goes cX5_goes 9 none (d + 3) true x0 D [.ref (ad x0 14), .ref (ad x0 a1), J a2, J a3, J a4, J a5, J a6] s0 0 res := by
  refine XMet0.ofn [(0, .ref (ad x0 14)), (1, .ref (ad x0 a1)), (2, J a2), (3, J a3), (4, J a4), (5, J a5), (6, J a6)] "VerbAtDusk$Walk" "goes" rfl rfl (plainFor_of_name (by decide)) (Nat.le_of_ble_eq_true rfl) rfl ?_
  unfold x5_goes_B at h
  generalize nC s0 = cN
  generalize nS s0 = sN
  obtain ⟨ga1, h⟩ := gd_e h
  refine gx_iload_n 0 3 dX5_goes_0 rfl ?_
  refine gx_aload_n 1 0 dX5_goes_1 rfl ?_
  refine gx_get (t := 6) (k := 4) (v := J (s0 14 4)) 2 cw6 (by decide) (tgs (show stc 14 = (6, 0) by decide) (by decide)) q402 same_f rfl dX5_goes_2 ?_
  refine gx_icmp_lt 5 9 dX5_goes_5 (by decide) (fun c7 => ?_) (fun c7 => ?_)
  · replace h := if_t h c7
    refine gx_iload 9 6 dX5_goes_9 rfl ?_
    refine gx_if_ne 11 68 dX5_goes_11 (by decide) (fun c8 => ?_) (fun c8 => ?_)
    · replace h := if_f h c8
      refine gx_iconst 68 dX5_goes_68 ?_
      obtain ⟨x7_9, ex7_9, h⟩ := bnd_e h
      refine gx_istore 69 [(7, J x7_9), (0, .ref (ad x0 14)), (1, .ref (ad x0 a1)), (2, J a2), (3, J a3), (4, J a4), (5, J a5), (6, J a6)] dX5_goes_69 (by decide) ex7_9 rfl ?_
      refine gx_sub [1, 2, 3, 4, 5, 6, 7, 0] rfl ?_
      refine wx5_goes_B_L71 hrc ga1 (fun s43 h => ?_) FU _ _ _ _ _ _ _ h
      · exact gx_vret 182 dX5_goes_182 (rt h)
    · replace h := if_t h c8
      refine gx_aload_n 14 0 dX5_goes_14 rfl ?_
      refine gx_iload_n 15 3 dX5_goes_15 rfl ?_
      obtain ⟨s44, es44, h⟩ := bnd_e h
      refine gx_put (t := 6) (k := 4) (x := a3) (ty := .int) 16 cw6 (by decide) (tgs (show stc 14 = (6, 0) by decide) (by decide)) (st0 (show stc 14 = (6, 0) by decide) (by decide)) (stm (show stc 14 = (6, 0) by decide) (by decide)) q402 same_f rfl (by decide +kernel) rfl rfl (congrArg J (ux_s _ _ _ _)) es44 dX5_goes_16 ?_
      refine gx_iconst 19 dX5_goes_19 ?_
      obtain ⟨x7_45, ex7_45, h⟩ := bnd_e h
      refine gx_istore 20 [(7, J x7_45), (0, .ref (ad x0 14)), (1, .ref (ad x0 a1)), (2, J a2), (3, J a3), (4, J a4), (5, J a5), (6, J a6)] dX5_goes_20 (by decide) ex7_45 rfl ?_
      refine gx_sub [1, 3, 0] rfl ?_
      refine wx5_goes_B_L22 hrc ga1 (fun s59 h => ?_) FU _ _ _ h
      · exact gx_vret 67 dX5_goes_67 (rt h)
  · replace h := if_f h c7
    exact gx_vret 8 dX5_goes_8 (rt h)
theorem mx5_goes_n {x0 : Nat} {D : XD} {l : Launch} : ∀ (n : Nat) (v0_ v1_ v2_ v3_ v4_ v5_ : Int) (t_ : XS) (z_ : Int × XS), x5_goes n v0_ v1_ v2_ v3_ v4_ v5_ t_ = some z_ → XMet0 l yX5_goes cX5_goes 9 none (3 * n) true x0 D [.ref (ad x0 14), .ref (ad x0 v0_), J v1_, J v2_, J v3_, J v4_, J v5_] t_ 0 z_ := by
  intro n
  induction n with
  | zero => intro v0_ v1_ v2_ v3_ v4_ v5_ t_ z_ h; cases h
  | succ n ih =>
    intro v0_ v1_ v2_ v3_ v4_ v5_ t_ z_ h
    rw [x5_goes] at h
    have := mx5_goes_B (d := 3 * n) ih h
    rw [Nat.mul_succ]
    exact this
theorem mx5_goes {x0 : Nat} {D : XD} {v0_ v1_ v2_ v3_ v4_ v5_ : Int} {t_ : XS} {z_ : Int × XS} (h : x5_goes 9 v0_ v1_ v2_ v3_ v4_ v5_ t_ = some z_) (l : Launch) : XMet0 l yX5_goes cX5_goes 9 none 27 true x0 D [.ref (ad x0 14), .ref (ad x0 v0_), J v1_, J v2_, J v3_, J v4_, J v5_] t_ 0 z_ := mx5_goes_n 9 _ _ _ _ _ _ _ _ h
/-! VerbAtDusk$Walk.by -/
noncomputable def x5_by (a1 : Int) (s0 : XS) : Option (Int × XS) :=
  gd (isSt a1) <|
  bnd (ux s0 14 4 100000000) fun s2 =>
  Option.bind (x0_sayings s2) fun z3 =>
  Option.bind (x5_goes 9 a1 0 0 0 0 ((ishl 1 z3.1) - 1) z3.2) fun z4 =>
  some (14, z4.2)
theorem mx5_by {x0 : Nat} {D : XD} {a1 : Int} {s0 : XS} {res : Int × XS} (h : x5_by a1 s0 = some res) (l : Launch) : XMet0 l yX5_by cX5_by 2 (some (.object "VerbAtDusk$Walk")) 28 true x0 D [.ref (ad x0 14), .ref (ad x0 a1)] s0 3 res := by
  refine XMet0.ofn [(0, .ref (ad x0 14)), (1, .ref (ad x0 a1))] "VerbAtDusk$Walk" "by" rfl rfl (plainFor_of_name (by decide)) (Nat.le_of_ble_eq_true rfl) rfl ?_
  unfold x5_by at h
  generalize nC s0 = cN
  generalize nS s0 = sN
  obtain ⟨ga1, h⟩ := gd_e h
  refine gx_aload_n 0 0 dX5_by_0 rfl ?_
  refine gx_ldc (v := 100000000) 1 dX5_by_1 q1474 (by decide) ?_
  obtain ⟨s2, es2, h⟩ := bnd_e h
  refine gx_put (t := 6) (k := 4) (x := 100000000) (ty := .int) 3 cw6 (by decide) (tgs (show stc 14 = (6, 0) by decide) (by decide)) (st0 (show stc 14 = (6, 0) by decide) (by decide)) (stm (show stc 14 = (6, 0) by decide) (by decide)) q402 same_f rfl (by decide +kernel) rfl rfl (congrArg J (ux_s _ _ _ _)) es2 dX5_by_3 ?_
  refine gx_aload_n 6 0 dX5_by_6 rfl ?_
  refine gx_aload_n 7 1 dX5_by_7 rfl ?_
  refine gx_iconst 8 dX5_by_8 ?_
  refine gx_iconst 9 dX5_by_9 ?_
  refine gx_iconst 10 dX5_by_10 ?_
  refine gx_iconst 11 dX5_by_11 ?_
  refine gx_iconst 12 dX5_by_12 ?_
  refine gx_aload_n 13 0 dX5_by_13 rfl ?_
  refine gx_get (t := 6) (k := 5) (v := .ref (ad x0 0)) 14 cw6 (by decide) (tgs (show stc 14 = (6, 0) by decide) (by decide)) q404 same_f (rf_ne (nes (show stc 0 = (1, 0) by decide) (by decide))) dX5_by_14 ?_
  obtain ⟨z3, ez3, h⟩ := opt_e h
  refine gx_callVN (As := []) (rest := [J 1, J 0, J 0, J 0, J 0, .ref (ad x0 a1), .ref (ad x0 14)]) (st' := [J z3.1, J 1, J 0, J 0, J 0, J 0, .ref (ad x0 a1), .ref (ad x0 14)]) 17 0 cw1 (tgs (show stc 0 = (1, 0) by decide) (by decide)) (mx0_sayings ez3 l) q1291 q147 q1475 q1290 qs33 (by decide +kernel) (by decide) rfl rfl (Nat.le_of_ble_eq_true rfl) dX5_by_17 rfl ?_
  refine gx_ishl 20 dX5_by_20 ?_
  refine gx_iconst 21 dX5_by_21 ?_
  refine gx_isub 22 dX5_by_22 ?_
  obtain ⟨z4, ez4, h⟩ := opt_e h
  refine gx_callV (As := [.ref (ad x0 a1), J 0, J 0, J 0, J 0, J ((ishl 1 z3.1) - 1)]) (rest := []) (st' := []) 23 6 cw6 (tgs (show stc 14 = (6, 0) by decide) (by decide)) (mx5_goes ez4 l) (lw_V q1476 q1478 qs40 q158 q1479) (by decide +kernel) (by decide) rfl rfl (Nat.le_of_ble_eq_true rfl) dX5_by_23 rfl ?_
  refine gx_aload_n 26 0 dX5_by_26 rfl ?_
  exact gx_aret 27 (Or.inl ⟨_, rfl⟩) dX5_by_27 (rt h)
/-! VerbAtDusk$Walk.dark -/
noncomputable def x5_dark_L4 (k50 : Int → XS → Option (Int × XS)) : Nat → Int → Int → XS → Option (Int × XS)
  | 0, _, _, _ => none
  | n + 1, x1_3, x2_4, s5 =>
    Option.bind (x0_sayings s5) fun z8 =>
    if i32 z8.1 ≤ i32 x2_4 then
      k50 x1_3 z8.2
    else
      gd (ok 6 x2_4) <|
      gd (¬ (z8.2 0 0) = -1) <|
      gd (tg true z8.2 (z8.2 0 0) = 2) <|
      bnd (fun (x2_13 : Int) (w14 : Int) (w15 : Int) (s16 : XS) =>
          bnd (ior w15 w14) fun x1_17 =>
          bnd (x2_13 + 1) fun x2_18 =>
          x5_dark_L4 k50 n x1_17 x2_18 s16) fun j19 =>
      if i32 (z8.2 16 (i32 x2_4)) ≤ i32 (z8.2 (z8.2 0 0) 1) then
        j19 x2_4 0 x1_3 z8.2
      else
        j19 x2_4 (ishl 1 x2_4) x1_3 z8.2
noncomputable def x5_dark (s0 : XS) : Option (Int × XS) :=
  bnd 0 fun x1_1 =>
  bnd 0 fun x2_2 =>
  x5_dark_L4
    (fun (x1_21 : Int) (s22 : XS) =>
      some (x1_21, s22))
    FU x1_1 x2_2 s0
theorem wx5_dark_L4 {l : Launch} {x0 : Nat} {D : XD} {cN sN : Nat} {res : Int × XS} {k50 : Int → XS → Option (Int × XS)} (hk50 : ∀ (x1_6 : Int) (s7 : XS), k50 x1_6 s7 = some res → GX l cX5_dark "VerbAtDusk$Walk" 3 (some .int) "dark" [] x0 D true 1 3 cN sN (0, res) s7 50 [(1, J x1_6)] []) : ∀ (n : Nat) (x1_3 : Int) (x2_4 : Int) (s5 : XS), x5_dark_L4 k50 n x1_3 x2_4 s5 = some res → GX l cX5_dark "VerbAtDusk$Walk" 3 (some .int) "dark" [] x0 D true 1 3 cN sN (0, res) s5 4 [(0, .ref (ad x0 14)), (1, J x1_3), (2, J x2_4)] [] := by
  intro n
  induction n with
  | zero =>
    intro x1_3 x2_4 s5 h
    cases h
  | succ n ih =>
    intro x1_3 x2_4 s5 h
    rw [x5_dark_L4] at h
    refine gx_iload_n 4 2 dX5_dark_4 rfl ?_
    refine gx_aload_n 5 0 dX5_dark_5 rfl ?_
    refine gx_get (t := 6) (k := 5) (v := .ref (ad x0 0)) 6 cw6 (by decide) (tgs (show stc 14 = (6, 0) by decide) (by decide)) q404 same_f (rf_ne (nes (show stc 0 = (1, 0) by decide) (by decide))) dX5_dark_6 ?_
    obtain ⟨z8, ez8, h⟩ := opt_e h
    refine gx_callVN (As := []) (rest := [J x2_4]) (st' := [J z8.1, J x2_4]) 9 0 cw1 (tgs (show stc 0 = (1, 0) by decide) (by decide)) (mx0_sayings ez8 l) q1291 q147 q1475 q1290 qs33 (by decide +kernel) (by decide) rfl rfl (Nat.le_of_ble_eq_true rfl) dX5_dark_9 rfl ?_
    refine gx_icmp_ge 12 50 dX5_dark_12 (by decide) (fun c9 => ?_) (fun c9 => ?_)
    · replace h := if_t h c9
      refine gx_sub [1] rfl ?_
      exact hk50 _ _ h
    · replace h := if_f h c9
      refine gx_iload_n 15 1 dX5_dark_15 rfl ?_
      refine gx_aload_n 16 0 dX5_dark_16 rfl ?_
      refine gx_get (t := 6) (k := 1) (v := .ref (ad x0 16)) 17 cw6 (by decide) (tgs (show stc 14 = (6, 0) by decide) (by decide)) q399 same_f (rf_ne (nes (show stc 16 = (101, 6) by decide) (by decide))) dX5_dark_17 ?_
      refine gx_iload_n 20 2 dX5_dark_20 rfl ?_
      obtain ⟨g10, h⟩ := gd_e h
      refine gx_iald 21 (tgs (show stc 16 = (101, 6) by decide) (by decide)) (oks (show stc 16 = (101, 6) by decide) (by decide) g10) dX5_dark_21 ?_
      refine gx_aload_n 22 0 dX5_dark_22 rfl ?_
      refine gx_get (t := 6) (k := 5) (v := .ref (ad x0 0)) 23 cw6 (by decide) (tgs (show stc 14 = (6, 0) by decide) (by decide)) q404 same_f (rf_ne (nes (show stc 0 = (1, 0) by decide) (by decide))) dX5_dark_23 ?_
      obtain ⟨g11, h⟩ := gd_e h
      refine gx_getN (t := 1) (k := 0) (v := .ref (ad x0 (z8.2 0 0))) 26 cw1 (by decide) (tgs (show stc 0 = (1, 0) by decide) (by decide)) q518 same_f (rf_ne g11) dX5_dark_26 ?_
      obtain ⟨g12, h⟩ := gd_e h
      refine gx_getN (t := 2) (k := 1) (v := J (z8.2 (z8.2 0 0) 1)) 29 cw2 (by decide) g12 q233 same_f rfl dX5_dark_29 ?_
      obtain ⟨j19, ej19, h⟩ := bnd_e h
      have hj19 : ∀ (x2_13 : Int) (w14 : Int) (w15 : Int) (s16 : XS), j19 x2_13 w14 w15 s16 = some res → GX l cX5_dark "VerbAtDusk$Walk" 3 (some .int) "dark" [] x0 D true 1 3 cN sN (0, res) s16 42 [(0, .ref (ad x0 14)), (2, J x2_13)] [J w14, J w15] := by
        clear h
        intro x2_13 w14 w15 s16 h
        subst ej19
        refine gx_ior 42 dX5_dark_42 ?_
        obtain ⟨x1_17, ex1_17, h⟩ := bnd_e h
        refine gx_istore_n 43 [(1, J x1_17), (0, .ref (ad x0 14)), (2, J x2_13)] dX5_dark_43 (by decide) ex1_17 rfl ?_
        obtain ⟨x2_18, ex2_18, h⟩ := bnd_e h
        refine gx_iinc 44 2 [(2, J x2_18), (1, J x1_17), (0, .ref (ad x0 14))] dX5_dark_44 rfl ex2_18 (by decide) rfl ?_
        refine gx_goto 47 4 dX5_dark_47 (by decide) ?_
        refine gx_sub [2, 1, 0] rfl ?_
        exact ih _ _ _ h
      refine gx_icmp_le 32 41 dX5_dark_32 (by decide) (fun c20 => ?_) (fun c20 => ?_)
      · replace h := if_t h c20
        refine gx_iconst 41 dX5_dark_41 ?_
        refine gx_sub [0, 2] rfl ?_
        exact hj19 _ _ _ _ h
      · replace h := if_f h c20
        refine gx_iconst 35 dX5_dark_35 ?_
        refine gx_iload_n 36 2 dX5_dark_36 rfl ?_
        refine gx_ishl 37 dX5_dark_37 ?_
        refine gx_goto 38 42 dX5_dark_38 (by decide) ?_
        refine gx_sub [0, 2] rfl ?_
        exact hj19 _ _ _ _ h
theorem mx5_dark {x0 : Nat} {D : XD} {s0 : XS} {res : Int × XS} (h : x5_dark s0 = some res) (l : Launch) : XMet0 l yX5_dark cX5_dark 3 (some .int) 3 true x0 D [.ref (ad x0 14)] s0 1 res := by
  refine XMet0.ofn [(0, .ref (ad x0 14))] "VerbAtDusk$Walk" "dark" rfl rfl (plainFor_of_name (by decide)) (Nat.le_of_ble_eq_true rfl) rfl ?_
  unfold x5_dark at h
  generalize nC s0 = cN
  generalize nS s0 = sN
  refine gx_iconst 0 dX5_dark_0 ?_
  obtain ⟨x1_1, ex1_1, h⟩ := bnd_e h
  refine gx_istore_n 1 [(1, J x1_1), (0, .ref (ad x0 14))] dX5_dark_1 (by decide) ex1_1 rfl ?_
  refine gx_iconst 2 dX5_dark_2 ?_
  obtain ⟨x2_2, ex2_2, h⟩ := bnd_e h
  refine gx_istore_n 3 [(2, J x2_2), (1, J x1_1), (0, .ref (ad x0 14))] dX5_dark_3 (by decide) ex2_2 rfl ?_
  refine gx_sub [2, 1, 0] rfl ?_
  refine wx5_dark_L4 (fun x1_21 s22 h => ?_) FU _ _ _ h
  · refine gx_iload_n 50 0 dX5_dark_50 rfl ?_
    exact gx_iret 51 dX5_dark_51 (rt h)
/-! VerbAtDusk$Giving.gives -/
noncomputable def x6_gives_B_L71 (rc : Int → Int → Int → XS → Option (Int × XS)) (k147 : XS → Option (Int × XS)) : Nat → Int → Int → Int → Int → XS → Option (Int × XS)
  | 0, _, _, _, _, _ => none
  | n + 1, x1_7, x2_8, x3_9, x5_10, s11 =>
    Option.bind (x0_verbs s11) fun z13 =>
    if i32 z13.1 ≤ i32 x5_10 then
      k147 z13.2
    else
      Option.bind (x0_has x2_8 x5_10 z13.2) fun z15 =>
      bnd (fun (x1_16 : Int) (x2_17 : Int) (x3_18 : Int) (x5_19 : Int) (s20 : XS) =>
          bnd (x5_19 + 1) fun x5_21 =>
          x6_gives_B_L71 rc k147 n x1_16 x2_17 x3_18 x5_21 s20) fun j22 =>
      if i32 z15.1 = 0 then
        j22 x1_7 x2_8 x3_9 x5_10 z15.2
      else
        gd (ok 6 x1_7) <|
        gd (ok 7 x5_10) <|
        if i32 (z15.2 (20 + 1 + i32 x1_7) (i32 x5_10)) = 0 then
          j22 x1_7 x2_8 x3_9 x5_10 z15.2
        else
          gd (ok 6 x1_7) <|
          bnd (ux z15.2 35 (i32 x1_7) x5_10) fun s28 =>
          gd (ok 6 x1_7) <|
          gd (ok 7 x5_10) <|
          Option.bind (rc (x1_7 + 1) (iand x2_8 (ixor (ishl 1 x5_10) (-1))) (x3_9 + (s28 (27 + 1 + i32 x1_7) (i32 x5_10))) s28) fun z31 =>
          j22 x1_7 x2_8 x3_9 x5_10 z31.2
noncomputable def x6_gives_B_L41 (rc : Int → Int → Int → XS → Option (Int × XS)) (k67 : XS → Option (Int × XS)) : Nat → Int → Int → XS → Option (Int × XS)
  | 0, _, _, _ => none
  | n + 1, x1_39, x5_40, s41 =>
    if i32 x1_39 ≤ i32 x5_40 then
      k67 s41
    else
      gd (ok 6 x5_40) <|
      gd (ok 6 x5_40) <|
      bnd (ux s41 34 (i32 x5_40) (s41 35 (i32 x5_40))) fun s46 =>
      bnd (x5_40 + 1) fun x5_47 =>
      x6_gives_B_L41 rc k67 n x1_39 x5_47 s46
noncomputable def x6_gives_B (rc : Int → Int → Int → XS → Option (Int × XS)) (a1 : Int) (a2 : Int) (a3 : Int) (s0 : XS) : Option (Int × XS) :=
  Option.bind (x0_sayings s0) fun z4 =>
  if i32 a1 = i32 z4.1 then
    bnd (fun (x1_33 : Int) (x3_34 : Int) (s35 : XS) =>
        bnd (ux s35 19 5 1) fun s36 =>
        bnd (ux s36 19 6 x3_34) fun s37 =>
        bnd 0 fun x5_38 =>
        x6_gives_B_L41 rc
          (fun (s48 : XS) =>
            some (0, s48))
          FU x1_33 x5_38 s37) fun j49 =>
    if i32 (z4.2 19 5) = 0 then
      j49 a1 a3 z4.2
    else
      if i64 (z4.2 19 6) < i64 a3 then
        j49 a1 a3 z4.2
      else
        some (0, z4.2)
  else
    bnd 0 fun x5_6 =>
    x6_gives_B_L71 rc
      (fun (s32 : XS) =>
        some (0, s32))
      FU a1 a2 a3 x5_6 z4.2
noncomputable def x6_gives : Nat → Int → Int → Int → XS → Option (Int × XS)
  | 0, _, _, _, _ => none
  | n + 1, v0_, v1_, v2_, t_ => x6_gives_B (x6_gives n) v0_ v1_ v2_ t_
theorem wx6_gives_B_L71 {l : Launch} {x0 : Nat} {D : XD} {cN sN : Nat} {res : Int × XS} {rc : Int → Int → Int → XS → Option (Int × XS)} {d : Nat} (hrc : ∀ (v0_ v1_ v2_ : Int) (t_ : XS) (z_ : Int × XS), rc v0_ v1_ v2_ t_ = some z_ → XMet0 l yX6_gives cX6_gives 6 none d true x0 D [.ref (ad x0 19), J v0_, J v1_, Lg v2_] t_ 0 z_) {k147 : XS → Option (Int × XS)} (hk147 : ∀ (s12 : XS), k147 s12 = some res → GX l cX6_gives "VerbAtDusk$Giving" 6 none "gives" [] x0 D true 0 (d + 3) cN sN (0, res) s12 147 [] []) : ∀ (n : Nat) (x1_7 : Int) (x2_8 : Int) (x3_9 : Int) (x5_10 : Int) (s11 : XS), x6_gives_B_L71 rc k147 n x1_7 x2_8 x3_9 x5_10 s11 = some res → GX l cX6_gives "VerbAtDusk$Giving" 6 none "gives" [] x0 D true 0 (d + 3) cN sN (0, res) s11 71 [(0, .ref (ad x0 19)), (1, J x1_7), (2, J x2_8), (3, Lg x3_9), (5, J x5_10)] [] := by
  intro n
  induction n with
  | zero =>
    intro x1_7 x2_8 x3_9 x5_10 s11 h
    cases h
  | succ n ih =>
    intro x1_7 x2_8 x3_9 x5_10 s11 h
    rw [x6_gives_B_L71] at h
    refine gx_iload 71 4 dX6_gives_71 rfl ?_
    refine gx_aload_n 73 0 dX6_gives_73 rfl ?_
    refine gx_get (t := 7) (k := 8) (v := .ref (ad x0 0)) 74 cw7 (by decide) (tgs (show stc 19 = (7, 0) by decide) (by decide)) q444 same_f (rf_ne (nes (show stc 0 = (1, 0) by decide) (by decide))) dX6_gives_74 ?_
    obtain ⟨z13, ez13, h⟩ := opt_e h
    refine gx_callVN (As := []) (rest := [J x5_10]) (st' := [J z13.1, J x5_10]) 77 0 cw1 (tgs (show stc 0 = (1, 0) by decide) (by decide)) (mx0_verbs ez13 l) q1309 q147 q1359 q1308 qs34 (by decide +kernel) (by omega) rfl rfl (Nat.le_of_ble_eq_true rfl) dX6_gives_77 rfl ?_
    refine gx_icmp_ge 80 147 dX6_gives_80 (by decide) (fun c14 => ?_) (fun c14 => ?_)
    · replace h := if_t h c14
      refine gx_sub [] rfl ?_
      exact hk147 _ h
    · replace h := if_f h c14
      refine gx_iload_n 83 2 dX6_gives_83 rfl ?_
      refine gx_iload 84 4 dX6_gives_84 rfl ?_
      obtain ⟨z15, ez15, h⟩ := opt_e h
      refine gx_callSN (As := [J x2_8, J x5_10]) (rest := []) (st' := [J z15.1]) 86 2 (mx0_has ez15 l) q1011 q147 q1469 q1010 (by decide +kernel) (by omega) rfl rfl (Nat.le_of_ble_eq_true rfl) dX6_gives_86 rfl ?_
      obtain ⟨j22, ej22, h⟩ := bnd_e h
      have hj22 : ∀ (x1_16 : Int) (x2_17 : Int) (x3_18 : Int) (x5_19 : Int) (s20 : XS), j22 x1_16 x2_17 x3_18 x5_19 s20 = some res → GX l cX6_gives "VerbAtDusk$Giving" 6 none "gives" [] x0 D true 0 (d + 3) cN sN (0, res) s20 141 [(0, .ref (ad x0 19)), (1, J x1_16), (2, J x2_17), (3, Lg x3_18), (5, J x5_19)] [] := by
        clear h
        intro x1_16 x2_17 x3_18 x5_19 s20 h
        subst ej22
        obtain ⟨x5_21, ex5_21, h⟩ := bnd_e h
        refine gx_iinc 141 4 [(5, J x5_21), (0, .ref (ad x0 19)), (1, J x1_16), (2, J x2_17), (3, Lg x3_18)] dX6_gives_141 rfl ex5_21 (by decide) rfl ?_
        refine gx_goto 144 71 dX6_gives_144 (by decide) ?_
        refine gx_sub [1, 2, 3, 4, 0] rfl ?_
        exact ih _ _ _ _ _ h
      refine gx_if_eq 89 141 dX6_gives_89 (by decide) (fun c23 => ?_) (fun c23 => ?_)
      · replace h := if_t h c23
        refine gx_sub [0, 1, 2, 3, 4] rfl ?_
        exact hj22 _ _ _ _ _ h
      · replace h := if_f h c23
        refine gx_aload_n 92 0 dX6_gives_92 rfl ?_
        refine gx_get (t := 7) (k := 0) (v := .ref (ad x0 20)) 93 cw7 (by decide) (tgs (show stc 19 = (7, 0) by decide) (by decide)) q429 same_f (rf_ne (nes (show stc 20 = (112, 6) by decide) (by decide))) dX6_gives_93 ?_
        refine gx_iload_n 96 1 dX6_gives_96 rfl ?_
        obtain ⟨g24, h⟩ := gd_e h
        refine gx_aald (t := 112) (ty := (.array .boolean)) (r := (20 + 1 + i32 x1_7)) 97 (by decide) rfl (by decide) (tgs (show stc 20 = (112, 6) by decide) (by decide)) (oks (show stc 20 = (112, 6) by decide) (by decide) g24) rfl (nes (s2_can g24) (by decide)) dX6_gives_97 ?_
        refine gx_iload 98 4 dX6_gives_98 rfl ?_
        obtain ⟨g25, h⟩ := gd_e h
        refine gx_zald 100 (tgs (s2_can g24) (by decide)) (oks (s2_can g24) (by decide) g25) dX6_gives_100 ?_
        refine gx_if_ne 101 107 dX6_gives_101 (by decide) (fun c26 => ?_) (fun c26 => ?_)
        · replace h := if_f h c26
          refine gx_aload_n 107 0 dX6_gives_107 rfl ?_
          refine gx_get (t := 7) (k := 3) (v := .ref (ad x0 35)) 108 cw7 (by decide) (tgs (show stc 19 = (7, 0) by decide) (by decide)) q434 same_f (rf_ne (nes (show stc 35 = (101, 6) by decide) (by decide))) dX6_gives_108 ?_
          refine gx_iload_n 111 1 dX6_gives_111 rfl ?_
          refine gx_iload 112 4 dX6_gives_112 rfl ?_
          obtain ⟨g27, h⟩ := gd_e h
          obtain ⟨s28, es28, h⟩ := bnd_e h
          refine gx_iast 114 (tgs (show stc 35 = (101, 6) by decide) (by decide)) (st0 (show stc 35 = (101, 6) by decide) (by decide)) (stm (show stc 35 = (101, 6) by decide) (by decide)) (oks (show stc 35 = (101, 6) by decide) (by decide) g27) es28 dX6_gives_114 ?_
          refine gx_aload_n 115 0 dX6_gives_115 rfl ?_
          refine gx_iload_n 116 1 dX6_gives_116 rfl ?_
          refine gx_iconst 117 dX6_gives_117 ?_
          refine gx_iadd 118 dX6_gives_118 ?_
          refine gx_iload_n 119 2 dX6_gives_119 rfl ?_
          refine gx_iconst 120 dX6_gives_120 ?_
          refine gx_iload 121 4 dX6_gives_121 rfl ?_
          refine gx_ishl 123 dX6_gives_123 ?_
          refine gx_iconst 124 dX6_gives_124 ?_
          refine gx_ixor 125 dX6_gives_125 ?_
          refine gx_iand 126 dX6_gives_126 ?_
          refine gx_lload_n 127 3 dX6_gives_127 rfl ?_
          refine gx_aload_n 128 0 dX6_gives_128 rfl ?_
          refine gx_get (t := 7) (k := 1) (v := .ref (ad x0 27)) 129 cw7 (by decide) (tgs (show stc 19 = (7, 0) by decide) (by decide)) q430 same_f (rf_ne (nes (show stc 27 = (113, 6) by decide) (by decide))) dX6_gives_129 ?_
          refine gx_iload_n 132 1 dX6_gives_132 rfl ?_
          obtain ⟨g29, h⟩ := gd_e h
          refine gx_aald (t := 113) (ty := (.array .long)) (r := (27 + 1 + i32 x1_7)) 133 (by decide) rfl (by decide) (tgs (show stc 27 = (113, 6) by decide) (by decide)) (oks (show stc 27 = (113, 6) by decide) (by decide) g29) rfl (nes (s2_well g29) (by decide)) dX6_gives_133 ?_
          refine gx_iload 134 4 dX6_gives_134 rfl ?_
          obtain ⟨g30, h⟩ := gd_e h
          refine gx_lald 136 (tgs (s2_well g29) (by decide)) (oks (s2_well g29) (by decide) g30) dX6_gives_136 ?_
          refine gx_ladd 137 dX6_gives_137 ?_
          obtain ⟨z31, ez31, h⟩ := opt_e h
          refine gx_callV (As := [J (x1_7 + 1), J (iand x2_8 (ixor (ishl 1 x5_10) (-1))), Lg (x3_9 + (s28 (27 + 1 + i32 x1_7) (i32 x5_10)))]) (rest := []) (st' := []) 138 3 cw7 (tgs (show stc 19 = (7, 0) by decide) (by decide)) (hrc _ _ _ _ _ ez31) (lw_V q1465 q1467 qs39 q159 q1468) (by decide +kernel) (by omega) rfl rfl (Nat.le_of_ble_eq_true rfl) dX6_gives_138 rfl ?_
          refine gx_sub [0, 1, 2, 3, 4] rfl ?_
          exact hj22 _ _ _ _ _ h
        · replace h := if_t h c26
          refine gx_goto 104 141 dX6_gives_104 (by decide) ?_
          refine gx_sub [0, 1, 2, 3, 4] rfl ?_
          exact hj22 _ _ _ _ _ h
theorem wx6_gives_B_L41 {l : Launch} {x0 : Nat} {D : XD} {cN sN : Nat} {res : Int × XS} {rc : Int → Int → Int → XS → Option (Int × XS)} {d : Nat} (hrc : ∀ (v0_ v1_ v2_ : Int) (t_ : XS) (z_ : Int × XS), rc v0_ v1_ v2_ t_ = some z_ → XMet0 l yX6_gives cX6_gives 6 none d true x0 D [.ref (ad x0 19), J v0_, J v1_, Lg v2_] t_ 0 z_) {k67 : XS → Option (Int × XS)} (hk67 : ∀ (s42 : XS), k67 s42 = some res → GX l cX6_gives "VerbAtDusk$Giving" 6 none "gives" [] x0 D true 0 (d + 3) cN sN (0, res) s42 67 [] []) : ∀ (n : Nat) (x1_39 : Int) (x5_40 : Int) (s41 : XS), x6_gives_B_L41 rc k67 n x1_39 x5_40 s41 = some res → GX l cX6_gives "VerbAtDusk$Giving" 6 none "gives" [] x0 D true 0 (d + 3) cN sN (0, res) s41 41 [(0, .ref (ad x0 19)), (1, J x1_39), (5, J x5_40)] [] := by
  intro n
  induction n with
  | zero =>
    intro x1_39 x5_40 s41 h
    cases h
  | succ n ih =>
    intro x1_39 x5_40 s41 h
    rw [x6_gives_B_L41] at h
    refine gx_iload 41 2 dX6_gives_41 rfl ?_
    refine gx_iload_n 43 1 dX6_gives_43 rfl ?_
    refine gx_icmp_ge 44 67 dX6_gives_44 (by decide) (fun c43 => ?_) (fun c43 => ?_)
    · replace h := if_t h c43
      refine gx_sub [] rfl ?_
      exact hk67 _ h
    · replace h := if_f h c43
      refine gx_aload_n 47 0 dX6_gives_47 rfl ?_
      refine gx_get (t := 7) (k := 2) (v := .ref (ad x0 34)) 48 cw7 (by decide) (tgs (show stc 19 = (7, 0) by decide) (by decide)) q431 same_f (rf_ne (nes (show stc 34 = (101, 6) by decide) (by decide))) dX6_gives_48 ?_
      refine gx_iload 51 2 dX6_gives_51 rfl ?_
      refine gx_aload_n 53 0 dX6_gives_53 rfl ?_
      refine gx_get (t := 7) (k := 3) (v := .ref (ad x0 35)) 54 cw7 (by decide) (tgs (show stc 19 = (7, 0) by decide) (by decide)) q434 same_f (rf_ne (nes (show stc 35 = (101, 6) by decide) (by decide))) dX6_gives_54 ?_
      refine gx_iload 57 2 dX6_gives_57 rfl ?_
      obtain ⟨g44, h⟩ := gd_e h
      refine gx_iald 59 (tgs (show stc 35 = (101, 6) by decide) (by decide)) (oks (show stc 35 = (101, 6) by decide) (by decide) g44) dX6_gives_59 ?_
      obtain ⟨g45, h⟩ := gd_e h
      obtain ⟨s46, es46, h⟩ := bnd_e h
      refine gx_iast 60 (tgs (show stc 34 = (101, 6) by decide) (by decide)) (st0 (show stc 34 = (101, 6) by decide) (by decide)) (stm (show stc 34 = (101, 6) by decide) (by decide)) (oks (show stc 34 = (101, 6) by decide) (by decide) g45) es46 dX6_gives_60 ?_
      obtain ⟨x5_47, ex5_47, h⟩ := bnd_e h
      refine gx_iinc 61 2 [(5, J x5_47), (0, .ref (ad x0 19)), (1, J x1_39)] dX6_gives_61 rfl ex5_47 (by decide) rfl ?_
      refine gx_goto 64 41 dX6_gives_64 (by decide) ?_
      refine gx_sub [1, 2, 0] rfl ?_
      exact ih _ _ _ h
theorem mx6_gives_B {rc : Int → Int → Int → XS → Option (Int × XS)} {d : Nat} {x0 : Nat} {D : XD} {a1 : Int} {a2 : Int} {a3 : Int} {s0 : XS} {res : Int × XS} {l : Launch} (hrc : ∀ (v0_ v1_ v2_ : Int) (t_ : XS) (z_ : Int × XS), rc v0_ v1_ v2_ t_ = some z_ → XMet0 l yX6_gives cX6_gives 6 none d true x0 D [.ref (ad x0 19), J v0_, J v1_, Lg v2_] t_ 0 z_) (h : x6_gives_B rc a1 a2 a3 s0 = some res) : XMet0 l yX6_gives cX6_gives 6 none (d + 3) true x0 D [.ref (ad x0 19), J a1, J a2, Lg a3] s0 0 res := by
  refine XMet0.ofn [(0, .ref (ad x0 19)), (1, J a1), (2, J a2), (3, Lg a3)] "VerbAtDusk$Giving" "gives" rfl rfl (plainFor_of_name (by decide)) (Nat.le_of_ble_eq_true rfl) rfl ?_
  unfold x6_gives_B at h
  generalize nC s0 = cN
  generalize nS s0 = sN
  refine gx_iload_n 0 1 dX6_gives_0 rfl ?_
  refine gx_aload_n 1 0 dX6_gives_1 rfl ?_
  refine gx_get (t := 7) (k := 8) (v := .ref (ad x0 0)) 2 cw7 (by decide) (tgs (show stc 19 = (7, 0) by decide) (by decide)) q444 same_f (rf_ne (nes (show stc 0 = (1, 0) by decide) (by decide))) dX6_gives_2 ?_
  obtain ⟨z4, ez4, h⟩ := opt_e h
  refine gx_callVN (As := []) (rest := [J a1]) (st' := [J z4.1, J a1]) 5 0 cw1 (tgs (show stc 0 = (1, 0) by decide) (by decide)) (mx0_sayings ez4 l) q1291 q147 q1358 q1290 qs33 (by decide +kernel) (by omega) rfl rfl (Nat.le_of_ble_eq_true rfl) dX6_gives_5 rfl ?_
  refine gx_icmp_ne 8 68 dX6_gives_8 (by decide) (fun c5 => ?_) (fun c5 => ?_)
  · replace h := if_f h c5
    refine gx_iconst 68 dX6_gives_68 ?_
    obtain ⟨x5_6, ex5_6, h⟩ := bnd_e h
    refine gx_istore 69 [(5, J x5_6), (0, .ref (ad x0 19)), (1, J a1), (2, J a2), (3, Lg a3)] dX6_gives_69 (by decide) ex5_6 rfl ?_
    refine gx_sub [1, 2, 3, 4, 0] rfl ?_
    refine wx6_gives_B_L71 hrc (fun s32 h => ?_) FU _ _ _ _ _ h
    · exact gx_vret 147 dX6_gives_147 (rt h)
  · replace h := if_t h c5
    refine gx_aload_n 11 0 dX6_gives_11 rfl ?_
    refine gx_get (t := 7) (k := 5) (v := J (z4.2 19 5)) 12 cw7 (by decide) (tgs (show stc 19 = (7, 0) by decide) (by decide)) q437 same_f rfl dX6_gives_12 ?_
    obtain ⟨j49, ej49, h⟩ := bnd_e h
    have hj49 : ∀ (x1_33 : Int) (x3_34 : Int) (s35 : XS), j49 x1_33 x3_34 s35 = some res → GX l cX6_gives "VerbAtDusk$Giving" 6 none "gives" [] x0 D true 0 (d + 3) cN sN (0, res) s35 28 [(0, .ref (ad x0 19)), (1, J x1_33), (3, Lg x3_34)] [] := by
      clear h
      intro x1_33 x3_34 s35 h
      subst ej49
      refine gx_aload_n 28 0 dX6_gives_28 rfl ?_
      refine gx_iconst 29 dX6_gives_29 ?_
      obtain ⟨s36, es36, h⟩ := bnd_e h
      refine gx_put (t := 7) (k := 5) (x := 1) (ty := .boolean) 30 cw7 (by decide) (tgs (show stc 19 = (7, 0) by decide) (by decide)) (st0 (show stc 19 = (7, 0) by decide) (by decide)) (stm (show stc 19 = (7, 0) by decide) (by decide)) q437 same_f rfl (by decide +kernel) (bz_narrow (by decide)) (bz_fits (by decide)) (congrArg J (ux_s _ _ _ _)) es36 dX6_gives_30 ?_
      refine gx_aload_n 33 0 dX6_gives_33 rfl ?_
      refine gx_lload_n 34 2 dX6_gives_34 rfl ?_
      obtain ⟨s37, es37, h⟩ := bnd_e h
      refine gx_put (t := 7) (k := 6) (x := x3_34) (ty := .long) 35 cw7 (by decide) (tgs (show stc 19 = (7, 0) by decide) (by decide)) (st0 (show stc 19 = (7, 0) by decide) (by decide)) (stm (show stc 19 = (7, 0) by decide) (by decide)) q440 same_f rfl (by decide +kernel) rfl rfl (congrArg Lg (ux_s _ _ _ _)) es37 dX6_gives_35 ?_
      refine gx_iconst 38 dX6_gives_38 ?_
      obtain ⟨x5_38, ex5_38, h⟩ := bnd_e h
      refine gx_istore 39 [(5, J x5_38), (0, .ref (ad x0 19)), (1, J x1_33), (3, Lg x3_34)] dX6_gives_39 (by decide) ex5_38 rfl ?_
      refine gx_sub [1, 2, 0] rfl ?_
      refine wx6_gives_B_L41 hrc (fun s48 h => ?_) FU _ _ _ h
      · exact gx_vret 67 dX6_gives_67 (rt h)
    refine gx_if_eq 15 28 dX6_gives_15 (by decide) (fun c50 => ?_) (fun c50 => ?_)
    · replace h := if_t h c50
      refine gx_sub [0, 1, 3] rfl ?_
      exact hj49 _ _ _ h
    · replace h := if_f h c50
      refine gx_lload_n 18 3 dX6_gives_18 rfl ?_
      refine gx_aload_n 19 0 dX6_gives_19 rfl ?_
      refine gx_get (t := 7) (k := 6) (v := Lg (z4.2 19 6)) 20 cw7 (by decide) (tgs (show stc 19 = (7, 0) by decide) (by decide)) q440 same_f rfl dX6_gives_20 ?_
      refine gx_lcmp_gt 23 28 dX6_gives_23 dX6_gives_24 (by decide) (fun c51 => ?_) (fun c51 => ?_)
      · replace h := if_t h c51
        refine gx_sub [0, 1, 3] rfl ?_
        exact hj49 _ _ _ h
      · replace h := if_f h c51
        exact gx_vret 27 dX6_gives_27 (rt h)
theorem mx6_gives_n {x0 : Nat} {D : XD} {l : Launch} : ∀ (n : Nat) (v0_ v1_ v2_ : Int) (t_ : XS) (z_ : Int × XS), x6_gives n v0_ v1_ v2_ t_ = some z_ → XMet0 l yX6_gives cX6_gives 6 none (3 * n) true x0 D [.ref (ad x0 19), J v0_, J v1_, Lg v2_] t_ 0 z_ := by
  intro n
  induction n with
  | zero => intro v0_ v1_ v2_ t_ z_ h; cases h
  | succ n ih =>
    intro v0_ v1_ v2_ t_ z_ h
    rw [x6_gives] at h
    have := mx6_gives_B (d := 3 * n) ih h
    rw [Nat.mul_succ]
    exact this
theorem mx6_gives {x0 : Nat} {D : XD} {v0_ v1_ v2_ : Int} {t_ : XS} {z_ : Int × XS} (h : x6_gives 9 v0_ v1_ v2_ t_ = some z_) (l : Launch) : XMet0 l yX6_gives cX6_gives 6 none 27 true x0 D [.ref (ad x0 19), J v0_, J v1_, Lg v2_] t_ 0 z_ := mx6_gives_n 9 _ _ _ _ _ h
/-! VerbAtDusk$Giving.in -/
noncomputable def x6_in (a1 : Int) (s0 : XS) : Option (Int × XS) :=
  bnd (ux s0 19 4 a1) fun s2 =>
  bnd (ux s2 19 5 0) fun s3 =>
  Option.bind (x6_gives 9 0 (s3 19 4) 0 s3) fun z4 =>
  some (19, z4.2)
theorem mx6_in {x0 : Nat} {D : XD} {a1 : Int} {s0 : XS} {res : Int × XS} (h : x6_in a1 s0 = some res) (l : Launch) : XMet0 l yX6_in cX6_in 2 (some (.object "VerbAtDusk$Giving")) 28 true x0 D [.ref (ad x0 19), J a1] s0 3 res := by
  refine XMet0.ofn [(0, .ref (ad x0 19)), (1, J a1)] "VerbAtDusk$Giving" "in" rfl rfl (plainFor_of_name (by decide)) (Nat.le_of_ble_eq_true rfl) rfl ?_
  unfold x6_in at h
  generalize nC s0 = cN
  generalize nS s0 = sN
  refine gx_aload_n 0 0 dX6_in_0 rfl ?_
  refine gx_iload_n 1 1 dX6_in_1 rfl ?_
  obtain ⟨s2, es2, h⟩ := bnd_e h
  refine gx_put (t := 7) (k := 4) (x := a1) (ty := .int) 2 cw7 (by decide) (tgs (show stc 19 = (7, 0) by decide) (by decide)) (st0 (show stc 19 = (7, 0) by decide) (by decide)) (stm (show stc 19 = (7, 0) by decide) (by decide)) q436 same_f rfl (by decide +kernel) rfl rfl (congrArg J (ux_s _ _ _ _)) es2 dX6_in_2 ?_
  refine gx_aload_n 5 0 dX6_in_5 rfl ?_
  refine gx_iconst 6 dX6_in_6 ?_
  obtain ⟨s3, es3, h⟩ := bnd_e h
  refine gx_put (t := 7) (k := 5) (x := 0) (ty := .boolean) 7 cw7 (by decide) (tgs (show stc 19 = (7, 0) by decide) (by decide)) (st0 (show stc 19 = (7, 0) by decide) (by decide)) (stm (show stc 19 = (7, 0) by decide) (by decide)) q437 same_f rfl (by decide +kernel) (bz_narrow (by decide)) (bz_fits (by decide)) (congrArg J (ux_s _ _ _ _)) es3 dX6_in_7 ?_
  refine gx_aload_n 10 0 dX6_in_10 rfl ?_
  refine gx_iconst 11 dX6_in_11 ?_
  refine gx_aload_n 12 0 dX6_in_12 rfl ?_
  refine gx_get (t := 7) (k := 4) (v := J (s3 19 4)) 13 cw7 (by decide) (tgs (show stc 19 = (7, 0) by decide) (by decide)) q436 same_f rfl dX6_in_13 ?_
  refine gx_lconst (v := 0) 16 dX6_in_16 (by decide) ?_
  obtain ⟨z4, ez4, h⟩ := opt_e h
  refine gx_callV (As := [J 0, J (s3 19 4), Lg 0]) (rest := []) (st' := []) 17 3 cw7 (tgs (show stc 19 = (7, 0) by decide) (by decide)) (mx6_gives ez4 l) (lw_V q1465 q1467 qs39 q159 q1468) (by decide +kernel) (by decide) rfl rfl (Nat.le_of_ble_eq_true rfl) dX6_in_17 rfl ?_
  refine gx_aload_n 20 0 dX6_in_20 rfl ?_
  exact gx_aret 21 (Or.inl ⟨_, rfl⟩) dX6_in_21 (rt h)
/-! VerbAtDusk$Giving.by -/
noncomputable def x6_by_L15 (a1 : Int) (k60 : Int → XS → Option (Int × XS)) : Nat → Int → Int → XS → Option (Int × XS)
  | 0, _, _, _ => none
  | n + 1, x2_9, x3_10, s11 =>
    Option.bind (x0_verbs s11) fun z14 =>
    if i32 z14.1 ≤ i32 x3_10 then
      k60 x2_9 z14.2
    else
      gd (ok 6 x2_9) <|
      Option.bind (x7_can a1 x2_9 x3_10 z14.2) fun z17 =>
      gd (ok 7 x3_10) <|
      gd (bz z17.1) <|
      bnd (ux z17.2 (20 + 1 + i32 x2_9) (i32 x3_10) z17.1) fun s20 =>
      gd (ok 6 x2_9) <|
      Option.bind (x7_well (x_at 64) a1 x2_9 x3_10 s20) fun z22 =>
      gd (ok 7 x3_10) <|
      bnd (ux z22.2 (27 + 1 + i32 x2_9) (i32 x3_10) z22.1) fun s24 =>
      bnd (x3_10 + 1) fun x3_25 =>
      x6_by_L15 a1 k60 n x2_9 x3_25 s24
noncomputable def x6_by_L2 (a1 : Int) (k66 : XS → Option (Int × XS)) : Nat → Int → XS → Option (Int × XS)
  | 0, _, _ => none
  | n + 1, x2_3, s4 =>
    Option.bind (x0_sayings s4) fun z6 =>
    if i32 z6.1 ≤ i32 x2_3 then
      k66 z6.2
    else
      bnd 0 fun x3_8 =>
      x6_by_L15 a1
        (fun (x2_26 : Int) (s27 : XS) =>
          bnd (x2_26 + 1) fun x2_28 =>
          x6_by_L2 a1 k66 n x2_28 s27)
        FU x2_3 x3_8 z6.2
noncomputable def x6_by (a1 : Int) (s0 : XS) : Option (Int × XS) :=
  gd (isSt a1) <|
  bnd 0 fun x2_2 =>
  x6_by_L2 a1
    (fun (s29 : XS) =>
      Option.bind (x7_sack a1 s29) fun z30 =>
      Option.bind (x6_in z30.1 z30.2) fun z31 =>
      gd (z31.1 = 19) <|
      some (19, z31.2))
    FU x2_2 s0
theorem wx6_by_L15 {l : Launch} {x0 : Nat} {D : XD} {cN sN : Nat} {res : Int × XS} {a1 : Int} (ga1 : isSt a1) {k60 : Int → XS → Option (Int × XS)} (hk60 : ∀ (x2_12 : Int) (s13 : XS), k60 x2_12 s13 = some res → GX l cX6_by "VerbAtDusk$Giving" 4 (some (.object "VerbAtDusk$Giving")) "by" [] x0 D true 3 710 cN sN (0, res) s13 60 [(0, .ref (ad x0 19)), (1, .ref (ad x0 a1)), (2, J x2_12)] []) : ∀ (n : Nat) (x2_9 : Int) (x3_10 : Int) (s11 : XS), x6_by_L15 a1 k60 n x2_9 x3_10 s11 = some res → GX l cX6_by "VerbAtDusk$Giving" 4 (some (.object "VerbAtDusk$Giving")) "by" [] x0 D true 3 710 cN sN (0, res) s11 15 [(0, .ref (ad x0 19)), (1, .ref (ad x0 a1)), (2, J x2_9), (3, J x3_10)] [] := by
  intro n
  induction n with
  | zero =>
    intro x2_9 x3_10 s11 h
    cases h
  | succ n ih =>
    intro x2_9 x3_10 s11 h
    rw [x6_by_L15] at h
    refine gx_iload_n 15 3 dX6_by_15 rfl ?_
    refine gx_aload_n 16 0 dX6_by_16 rfl ?_
    refine gx_get (t := 7) (k := 8) (v := .ref (ad x0 0)) 17 cw7 (by decide) (tgs (show stc 19 = (7, 0) by decide) (by decide)) q444 same_f (rf_ne (nes (show stc 0 = (1, 0) by decide) (by decide))) dX6_by_17 ?_
    obtain ⟨z14, ez14, h⟩ := opt_e h
    refine gx_callVN (As := []) (rest := [J x3_10]) (st' := [J z14.1, J x3_10]) 20 0 cw1 (tgs (show stc 0 = (1, 0) by decide) (by decide)) (mx0_verbs ez14 l) q1309 q147 q1359 q1308 qs34 (by decide +kernel) (by decide) rfl rfl (Nat.le_of_ble_eq_true rfl) dX6_by_20 rfl ?_
    refine gx_icmp_ge 23 60 dX6_by_23 (by decide) (fun c15 => ?_) (fun c15 => ?_)
    · replace h := if_t h c15
      refine gx_sub [0, 1, 2] rfl ?_
      exact hk60 _ _ h
    · replace h := if_f h c15
      refine gx_aload_n 26 0 dX6_by_26 rfl ?_
      refine gx_get (t := 7) (k := 0) (v := .ref (ad x0 20)) 27 cw7 (by decide) (tgs (show stc 19 = (7, 0) by decide) (by decide)) q429 same_f (rf_ne (nes (show stc 20 = (112, 6) by decide) (by decide))) dX6_by_27 ?_
      refine gx_iload_n 30 2 dX6_by_30 rfl ?_
      obtain ⟨g16, h⟩ := gd_e h
      refine gx_aald (t := 112) (ty := (.array .boolean)) (r := (20 + 1 + i32 x2_9)) 31 (by decide) rfl (by decide) (tgs (show stc 20 = (112, 6) by decide) (by decide)) (oks (show stc 20 = (112, 6) by decide) (by decide) g16) rfl (nes (s2_can g16) (by decide)) dX6_by_31 ?_
      refine gx_iload_n 32 3 dX6_by_32 rfl ?_
      refine gx_aload_n 33 1 dX6_by_33 rfl ?_
      refine gx_iload_n 34 2 dX6_by_34 rfl ?_
      refine gx_iload_n 35 3 dX6_by_35 rfl ?_
      obtain ⟨z17, ez17, h⟩ := opt_e h
      refine gx_callV (As := [J x2_9, J x3_10]) (rest := [J x3_10, .ref (ad x0 (20 + 1 + i32 x2_9))]) (st' := [J z17.1, J x3_10, .ref (ad x0 (20 + 1 + i32 x2_9))]) 36 2 cw8 (tgs (st_0 ga1) (by decide)) (mx7_can ez17 l) (lw_V q1360 q1361 q1362 q160 q1363) (by decide +kernel) (by decide) rfl rfl (Nat.le_of_ble_eq_true rfl) dX6_by_36 rfl ?_
      obtain ⟨g18, h⟩ := gd_e h
      obtain ⟨g19, h⟩ := gd_e h
      obtain ⟨s20, es20, h⟩ := bnd_e h
      refine gx_zast 39 (tgs (s2_can g16) (by decide)) (st0 (s2_can g16) (by decide)) (stm (s2_can g16) (by decide)) (oks (s2_can g16) (by decide) g18) g19 es20 dX6_by_39 ?_
      refine gx_aload_n 40 0 dX6_by_40 rfl ?_
      refine gx_get (t := 7) (k := 1) (v := .ref (ad x0 27)) 41 cw7 (by decide) (tgs (show stc 19 = (7, 0) by decide) (by decide)) q430 same_f (rf_ne (nes (show stc 27 = (113, 6) by decide) (by decide))) dX6_by_41 ?_
      refine gx_iload_n 44 2 dX6_by_44 rfl ?_
      obtain ⟨g21, h⟩ := gd_e h
      refine gx_aald (t := 113) (ty := (.array .long)) (r := (27 + 1 + i32 x2_9)) 45 (by decide) rfl (by decide) (tgs (show stc 27 = (113, 6) by decide) (by decide)) (oks (show stc 27 = (113, 6) by decide) (by decide) g21) rfl (nes (s2_well g21) (by decide)) dX6_by_45 ?_
      refine gx_iload_n 46 3 dX6_by_46 rfl ?_
      refine gx_aload_n 47 1 dX6_by_47 rfl ?_
      refine gx_iload_n 48 2 dX6_by_48 rfl ?_
      refine gx_iload_n 49 3 dX6_by_49 rfl ?_
      obtain ⟨z22, ez22, h⟩ := opt_e h
      refine gx_callV (As := [J x2_9, J x3_10]) (rest := [J x3_10, .ref (ad x0 (27 + 1 + i32 x2_9))]) (st' := [Lg z22.1, J x3_10, .ref (ad x0 (27 + 1 + i32 x2_9))]) 50 2 cw8 (tgs (st_0 ga1) (by decide)) (mx7_well (mx_at_n (l := l) 64) ez22) (lw_V q1455 q1426 q1427 q160 q1428) (by decide +kernel) (by decide) rfl rfl (Nat.le_of_ble_eq_true rfl) dX6_by_50 rfl ?_
      obtain ⟨g23, h⟩ := gd_e h
      obtain ⟨s24, es24, h⟩ := bnd_e h
      refine gx_last 53 (tgs (s2_well g21) (by decide)) (st0 (s2_well g21) (by decide)) (stm (s2_well g21) (by decide)) (oks (s2_well g21) (by decide) g23) es24 dX6_by_53 ?_
      obtain ⟨x3_25, ex3_25, h⟩ := bnd_e h
      refine gx_iinc 54 3 [(3, J x3_25), (0, .ref (ad x0 19)), (1, .ref (ad x0 a1)), (2, J x2_9)] dX6_by_54 rfl ex3_25 (by decide) rfl ?_
      refine gx_goto 57 15 dX6_by_57 (by decide) ?_
      refine gx_sub [1, 2, 3, 0] rfl ?_
      exact ih _ _ _ h
theorem wx6_by_L2 {l : Launch} {x0 : Nat} {D : XD} {cN sN : Nat} {res : Int × XS} {a1 : Int} (ga1 : isSt a1) {k66 : XS → Option (Int × XS)} (hk66 : ∀ (s5 : XS), k66 s5 = some res → GX l cX6_by "VerbAtDusk$Giving" 4 (some (.object "VerbAtDusk$Giving")) "by" [] x0 D true 3 710 cN sN (0, res) s5 66 [(0, .ref (ad x0 19)), (1, .ref (ad x0 a1))] []) : ∀ (n : Nat) (x2_3 : Int) (s4 : XS), x6_by_L2 a1 k66 n x2_3 s4 = some res → GX l cX6_by "VerbAtDusk$Giving" 4 (some (.object "VerbAtDusk$Giving")) "by" [] x0 D true 3 710 cN sN (0, res) s4 2 [(0, .ref (ad x0 19)), (1, .ref (ad x0 a1)), (2, J x2_3)] [] := by
  intro n
  induction n with
  | zero =>
    intro x2_3 s4 h
    cases h
  | succ n ih =>
    intro x2_3 s4 h
    rw [x6_by_L2] at h
    refine gx_iload_n 2 2 dX6_by_2 rfl ?_
    refine gx_aload_n 3 0 dX6_by_3 rfl ?_
    refine gx_get (t := 7) (k := 8) (v := .ref (ad x0 0)) 4 cw7 (by decide) (tgs (show stc 19 = (7, 0) by decide) (by decide)) q444 same_f (rf_ne (nes (show stc 0 = (1, 0) by decide) (by decide))) dX6_by_4 ?_
    obtain ⟨z6, ez6, h⟩ := opt_e h
    refine gx_callVN (As := []) (rest := [J x2_3]) (st' := [J z6.1, J x2_3]) 7 0 cw1 (tgs (show stc 0 = (1, 0) by decide) (by decide)) (mx0_sayings ez6 l) q1291 q147 q1358 q1290 qs33 (by decide +kernel) (by decide) rfl rfl (Nat.le_of_ble_eq_true rfl) dX6_by_7 rfl ?_
    refine gx_icmp_ge 10 66 dX6_by_10 (by decide) (fun c7 => ?_) (fun c7 => ?_)
    · replace h := if_t h c7
      refine gx_sub [0, 1] rfl ?_
      exact hk66 _ h
    · replace h := if_f h c7
      refine gx_iconst 13 dX6_by_13 ?_
      obtain ⟨x3_8, ex3_8, h⟩ := bnd_e h
      refine gx_istore_n 14 [(3, J x3_8), (0, .ref (ad x0 19)), (1, .ref (ad x0 a1)), (2, J x2_3)] dX6_by_14 (by decide) ex3_8 rfl ?_
      refine gx_sub [1, 2, 3, 0] rfl ?_
      refine wx6_by_L15 ga1 (fun x2_26 s27 h => ?_) FU _ _ _ h
      · obtain ⟨x2_28, ex2_28, h⟩ := bnd_e h
        refine gx_iinc 60 2 [(2, J x2_28), (0, .ref (ad x0 19)), (1, .ref (ad x0 a1))] dX6_by_60 rfl ex2_28 (by decide) rfl ?_
        refine gx_goto 63 2 dX6_by_63 (by decide) ?_
        refine gx_sub [1, 2, 0] rfl ?_
        exact ih _ _ h
theorem mx6_by {x0 : Nat} {D : XD} {a1 : Int} {s0 : XS} {res : Int × XS} (h : x6_by a1 s0 = some res) (l : Launch) : XMet0 l yX6_by cX6_by 4 (some (.object "VerbAtDusk$Giving")) 710 true x0 D [.ref (ad x0 19), .ref (ad x0 a1)] s0 3 res := by
  refine XMet0.ofn [(0, .ref (ad x0 19)), (1, .ref (ad x0 a1))] "VerbAtDusk$Giving" "by" rfl rfl (plainFor_of_name (by decide)) (Nat.le_of_ble_eq_true rfl) rfl ?_
  unfold x6_by at h
  generalize nC s0 = cN
  generalize nS s0 = sN
  obtain ⟨ga1, h⟩ := gd_e h
  refine gx_iconst 0 dX6_by_0 ?_
  obtain ⟨x2_2, ex2_2, h⟩ := bnd_e h
  refine gx_istore_n 1 [(2, J x2_2), (0, .ref (ad x0 19)), (1, .ref (ad x0 a1))] dX6_by_1 (by decide) ex2_2 rfl ?_
  refine gx_sub [1, 2, 0] rfl ?_
  refine wx6_by_L2 ga1 (fun s29 h => ?_) FU _ _ h
  · refine gx_aload_n 66 0 dX6_by_66 rfl ?_
    refine gx_aload_n 67 1 dX6_by_67 rfl ?_
    obtain ⟨z30, ez30, h⟩ := opt_e h
    refine gx_callV (As := []) (rest := [.ref (ad x0 19)]) (st' := [J z30.1, .ref (ad x0 19)]) 68 0 cw8 (tgs (st_0 ga1) (by decide)) (mx7_sack ez30 l) (lw_V q1456 q1457 q1458 q160 q1459) (by decide +kernel) (by decide) rfl rfl (Nat.le_of_ble_eq_true rfl) dX6_by_68 rfl ?_
    obtain ⟨z31, ez31, h⟩ := opt_e h
    refine gx_callV (As := [J z30.1]) (rest := []) (st' := [.ref (ad x0 z31.1)]) 71 1 cw7 (tgs (show stc 19 = (7, 0) by decide) (by decide)) (mx6_in ez31 l) (lw_V q1461 q1462 q1463 q159 q1464) (by decide +kernel) (by decide) rfl rfl (Nat.le_of_ble_eq_true rfl) dX6_by_71 rfl ?_
    obtain ⟨g32, h⟩ := gd_e h
    rw [g32]
    exact gx_aret 74 (Or.inl ⟨_, rfl⟩) dX6_by_74 (rt h)
/-! VerbAtDusk$Giving.spills -/
noncomputable def x6_spills_B_L58 (rc : Int → Int → Int → XS → Option (Int × XS)) (k130 : XS → Option (Int × XS)) : Nat → Int → Int → Int → Int → XS → Option (Int × XS)
  | 0, _, _, _, _, _ => none
  | n + 1, x1_8, x2_9, x3_10, x4_11, s12 =>
    Option.bind (x0_verbs s12) fun z14 =>
    if i32 z14.1 ≤ i32 x4_11 then
      k130 z14.2
    else
      Option.bind (x0_has x2_9 x4_11 z14.2) fun z16 =>
      bnd (fun (x1_17 : Int) (x2_18 : Int) (x3_19 : Int) (x4_20 : Int) (s21 : XS) =>
          bnd (x4_20 + 1) fun x4_22 =>
          x6_spills_B_L58 rc k130 n x1_17 x2_18 x3_19 x4_22 s21) fun j23 =>
      if i32 z16.1 = 0 then
        j23 x1_8 x2_9 x3_10 x4_11 z16.2
      else
        gd (ok 6 x1_8) <|
        bnd (ux z16.2 35 (i32 x1_8) x4_11) fun s26 =>
        gd (ok 6 x1_8) <|
        gd (ok 7 x4_11) <|
        bnd (fun (x1_29 : Int) (x2_30 : Int) (x3_31 : Int) (x4_32 : Int) (w33 : Int) (w34 : Int) (w35 : Int) (w36 : Int) (s37 : XS) =>
            Option.bind (rc w36 w35 (w34 + w33) s37) fun z38 =>
            j23 x1_29 x2_30 x3_31 x4_32 z38.2) fun j39 =>
        if i32 (s26 (20 + 1 + i32 x1_8) (i32 x4_11)) = 0 then
          j39 x1_8 x2_9 x3_10 x4_11 1 x3_10 (iand x2_9 (ixor (ishl 1 x4_11) (-1))) (x1_8 + 1) s26
        else
          j39 x1_8 x2_9 x3_10 x4_11 0 x3_10 (iand x2_9 (ixor (ishl 1 x4_11) (-1))) (x1_8 + 1) s26
noncomputable def x6_spills_B_L28 (rc : Int → Int → Int → XS → Option (Int × XS)) (k54 : XS → Option (Int × XS)) : Nat → Int → Int → XS → Option (Int × XS)
  | 0, _, _, _ => none
  | n + 1, x1_44, x4_45, s46 =>
    if i32 x1_44 ≤ i32 x4_45 then
      k54 s46
    else
      gd (ok 6 x4_45) <|
      gd (ok 6 x4_45) <|
      bnd (ux s46 34 (i32 x4_45) (s46 35 (i32 x4_45))) fun s51 =>
      bnd (x4_45 + 1) fun x4_52 =>
      x6_spills_B_L28 rc k54 n x1_44 x4_52 s51
noncomputable def x6_spills_B (rc : Int → Int → Int → XS → Option (Int × XS)) (a1 : Int) (a2 : Int) (a3 : Int) (s0 : XS) : Option (Int × XS) :=
  if i32 a3 < i32 (s0 19 7) then
    Option.bind (x0_sayings s0) fun z5 =>
    if i32 a1 = i32 z5.1 then
      bnd (ux z5.2 19 7 a3) fun s42 =>
      bnd 0 fun x4_43 =>
      x6_spills_B_L28 rc
        (fun (s53 : XS) =>
          some (0, s53))
        FU a1 x4_43 s42
    else
      bnd 0 fun x4_7 =>
      x6_spills_B_L58 rc
        (fun (s41 : XS) =>
          some (0, s41))
        FU a1 a2 a3 x4_7 z5.2
  else
    some (0, s0)
noncomputable def x6_spills : Nat → Int → Int → Int → XS → Option (Int × XS)
  | 0, _, _, _, _ => none
  | n + 1, v0_, v1_, v2_, t_ => x6_spills_B (x6_spills n) v0_ v1_ v2_ t_
theorem wx6_spills_B_L58 {l : Launch} {x0 : Nat} {D : XD} {cN sN : Nat} {res : Int × XS} {rc : Int → Int → Int → XS → Option (Int × XS)} {d : Nat} (hrc : ∀ (v0_ v1_ v2_ : Int) (t_ : XS) (z_ : Int × XS), rc v0_ v1_ v2_ t_ = some z_ → XMet0 l yX6_spills cX6_spills 5 none d true x0 D [.ref (ad x0 19), J v0_, J v1_, J v2_] t_ 0 z_) {k130 : XS → Option (Int × XS)} (hk130 : ∀ (s13 : XS), k130 s13 = some res → GX l cX6_spills "VerbAtDusk$Giving" 5 none "spills" [] x0 D true 0 (d + 3) cN sN (0, res) s13 130 [] []) : ∀ (n : Nat) (x1_8 : Int) (x2_9 : Int) (x3_10 : Int) (x4_11 : Int) (s12 : XS), x6_spills_B_L58 rc k130 n x1_8 x2_9 x3_10 x4_11 s12 = some res → GX l cX6_spills "VerbAtDusk$Giving" 5 none "spills" [] x0 D true 0 (d + 3) cN sN (0, res) s12 58 [(0, .ref (ad x0 19)), (1, J x1_8), (2, J x2_9), (3, J x3_10), (4, J x4_11)] [] := by
  intro n
  induction n with
  | zero =>
    intro x1_8 x2_9 x3_10 x4_11 s12 h
    cases h
  | succ n ih =>
    intro x1_8 x2_9 x3_10 x4_11 s12 h
    rw [x6_spills_B_L58] at h
    refine gx_iload 58 4 dX6_spills_58 rfl ?_
    refine gx_aload_n 60 0 dX6_spills_60 rfl ?_
    refine gx_get (t := 7) (k := 8) (v := .ref (ad x0 0)) 61 cw7 (by decide) (tgs (show stc 19 = (7, 0) by decide) (by decide)) q444 same_f (rf_ne (nes (show stc 0 = (1, 0) by decide) (by decide))) dX6_spills_61 ?_
    obtain ⟨z14, ez14, h⟩ := opt_e h
    refine gx_callVN (As := []) (rest := [J x4_11]) (st' := [J z14.1, J x4_11]) 64 0 cw1 (tgs (show stc 0 = (1, 0) by decide) (by decide)) (mx0_verbs ez14 l) q1309 q147 q1359 q1308 qs34 (by decide +kernel) (by omega) rfl rfl (Nat.le_of_ble_eq_true rfl) dX6_spills_64 rfl ?_
    refine gx_icmp_ge 67 130 dX6_spills_67 (by decide) (fun c15 => ?_) (fun c15 => ?_)
    · replace h := if_t h c15
      refine gx_sub [] rfl ?_
      exact hk130 _ h
    · replace h := if_f h c15
      refine gx_iload_n 70 2 dX6_spills_70 rfl ?_
      refine gx_iload 71 4 dX6_spills_71 rfl ?_
      obtain ⟨z16, ez16, h⟩ := opt_e h
      refine gx_callSN (As := [J x2_9, J x4_11]) (rest := []) (st' := [J z16.1]) 73 2 (mx0_has ez16 l) q1011 q147 q1469 q1010 (by decide +kernel) (by omega) rfl rfl (Nat.le_of_ble_eq_true rfl) dX6_spills_73 rfl ?_
      obtain ⟨j23, ej23, h⟩ := bnd_e h
      have hj23 : ∀ (x1_17 : Int) (x2_18 : Int) (x3_19 : Int) (x4_20 : Int) (s21 : XS), j23 x1_17 x2_18 x3_19 x4_20 s21 = some res → GX l cX6_spills "VerbAtDusk$Giving" 5 none "spills" [] x0 D true 0 (d + 3) cN sN (0, res) s21 124 [(0, .ref (ad x0 19)), (1, J x1_17), (2, J x2_18), (3, J x3_19), (4, J x4_20)] [] := by
        clear h
        intro x1_17 x2_18 x3_19 x4_20 s21 h
        subst ej23
        obtain ⟨x4_22, ex4_22, h⟩ := bnd_e h
        refine gx_iinc 124 4 [(4, J x4_22), (0, .ref (ad x0 19)), (1, J x1_17), (2, J x2_18), (3, J x3_19)] dX6_spills_124 rfl ex4_22 (by decide) rfl ?_
        refine gx_goto 127 58 dX6_spills_127 (by decide) ?_
        refine gx_sub [1, 2, 3, 4, 0] rfl ?_
        exact ih _ _ _ _ _ h
      refine gx_if_ne 76 82 dX6_spills_76 (by decide) (fun c24 => ?_) (fun c24 => ?_)
      · replace h := if_f h c24
        refine gx_aload_n 82 0 dX6_spills_82 rfl ?_
        refine gx_get (t := 7) (k := 3) (v := .ref (ad x0 35)) 83 cw7 (by decide) (tgs (show stc 19 = (7, 0) by decide) (by decide)) q434 same_f (rf_ne (nes (show stc 35 = (101, 6) by decide) (by decide))) dX6_spills_83 ?_
        refine gx_iload_n 86 1 dX6_spills_86 rfl ?_
        refine gx_iload 87 4 dX6_spills_87 rfl ?_
        obtain ⟨g25, h⟩ := gd_e h
        obtain ⟨s26, es26, h⟩ := bnd_e h
        refine gx_iast 89 (tgs (show stc 35 = (101, 6) by decide) (by decide)) (st0 (show stc 35 = (101, 6) by decide) (by decide)) (stm (show stc 35 = (101, 6) by decide) (by decide)) (oks (show stc 35 = (101, 6) by decide) (by decide) g25) es26 dX6_spills_89 ?_
        refine gx_aload_n 90 0 dX6_spills_90 rfl ?_
        refine gx_iload_n 91 1 dX6_spills_91 rfl ?_
        refine gx_iconst 92 dX6_spills_92 ?_
        refine gx_iadd 93 dX6_spills_93 ?_
        refine gx_iload_n 94 2 dX6_spills_94 rfl ?_
        refine gx_iconst 95 dX6_spills_95 ?_
        refine gx_iload 96 4 dX6_spills_96 rfl ?_
        refine gx_ishl 98 dX6_spills_98 ?_
        refine gx_iconst 99 dX6_spills_99 ?_
        refine gx_ixor 100 dX6_spills_100 ?_
        refine gx_iand 101 dX6_spills_101 ?_
        refine gx_iload_n 102 3 dX6_spills_102 rfl ?_
        refine gx_aload_n 103 0 dX6_spills_103 rfl ?_
        refine gx_get (t := 7) (k := 0) (v := .ref (ad x0 20)) 104 cw7 (by decide) (tgs (show stc 19 = (7, 0) by decide) (by decide)) q429 same_f (rf_ne (nes (show stc 20 = (112, 6) by decide) (by decide))) dX6_spills_104 ?_
        refine gx_iload_n 107 1 dX6_spills_107 rfl ?_
        obtain ⟨g27, h⟩ := gd_e h
        refine gx_aald (t := 112) (ty := (.array .boolean)) (r := (20 + 1 + i32 x1_8)) 108 (by decide) rfl (by decide) (tgs (show stc 20 = (112, 6) by decide) (by decide)) (oks (show stc 20 = (112, 6) by decide) (by decide) g27) rfl (nes (s2_can g27) (by decide)) dX6_spills_108 ?_
        refine gx_iload 109 4 dX6_spills_109 rfl ?_
        obtain ⟨g28, h⟩ := gd_e h
        refine gx_zald 111 (tgs (s2_can g27) (by decide)) (oks (s2_can g27) (by decide) g28) dX6_spills_111 ?_
        obtain ⟨j39, ej39, h⟩ := bnd_e h
        have hj39 : ∀ (x1_29 : Int) (x2_30 : Int) (x3_31 : Int) (x4_32 : Int) (w33 : Int) (w34 : Int) (w35 : Int) (w36 : Int) (s37 : XS), j39 x1_29 x2_30 x3_31 x4_32 w33 w34 w35 w36 s37 = some res → GX l cX6_spills "VerbAtDusk$Giving" 5 none "spills" [] x0 D true 0 (d + 3) cN sN (0, res) s37 120 [(0, .ref (ad x0 19)), (1, J x1_29), (2, J x2_30), (3, J x3_31), (4, J x4_32)] [J w33, J w34, J w35, J w36, .ref (ad x0 19)] := by
          clear h
          intro x1_29 x2_30 x3_31 x4_32 w33 w34 w35 w36 s37 h
          subst ej39
          refine gx_iadd 120 dX6_spills_120 ?_
          obtain ⟨z38, ez38, h⟩ := opt_e h
          refine gx_callV (As := [J w36, J w35, J (w34 + w33)]) (rest := []) (st' := []) 121 3 cw7 (tgs (show stc 19 = (7, 0) by decide) (by decide)) (hrc _ _ _ _ _ ez38) (lw_V q1543 q1545 qs43 q159 q1546) (by decide +kernel) (by omega) rfl rfl (Nat.le_of_ble_eq_true rfl) dX6_spills_121 rfl ?_
          refine gx_sub [0, 1, 2, 3, 4] rfl ?_
          exact hj23 _ _ _ _ _ h
        refine gx_if_eq 112 119 dX6_spills_112 (by decide) (fun c40 => ?_) (fun c40 => ?_)
        · replace h := if_t h c40
          refine gx_iconst 119 dX6_spills_119 ?_
          refine gx_sub [0, 1, 2, 3, 4] rfl ?_
          exact hj39 _ _ _ _ _ _ _ _ _ h
        · replace h := if_f h c40
          refine gx_iconst 115 dX6_spills_115 ?_
          refine gx_goto 116 120 dX6_spills_116 (by decide) ?_
          refine gx_sub [0, 1, 2, 3, 4] rfl ?_
          exact hj39 _ _ _ _ _ _ _ _ _ h
      · replace h := if_t h c24
        refine gx_goto 79 124 dX6_spills_79 (by decide) ?_
        refine gx_sub [0, 1, 2, 3, 4] rfl ?_
        exact hj23 _ _ _ _ _ h
theorem wx6_spills_B_L28 {l : Launch} {x0 : Nat} {D : XD} {cN sN : Nat} {res : Int × XS} {rc : Int → Int → Int → XS → Option (Int × XS)} {d : Nat} (hrc : ∀ (v0_ v1_ v2_ : Int) (t_ : XS) (z_ : Int × XS), rc v0_ v1_ v2_ t_ = some z_ → XMet0 l yX6_spills cX6_spills 5 none d true x0 D [.ref (ad x0 19), J v0_, J v1_, J v2_] t_ 0 z_) {k54 : XS → Option (Int × XS)} (hk54 : ∀ (s47 : XS), k54 s47 = some res → GX l cX6_spills "VerbAtDusk$Giving" 5 none "spills" [] x0 D true 0 (d + 3) cN sN (0, res) s47 54 [] []) : ∀ (n : Nat) (x1_44 : Int) (x4_45 : Int) (s46 : XS), x6_spills_B_L28 rc k54 n x1_44 x4_45 s46 = some res → GX l cX6_spills "VerbAtDusk$Giving" 5 none "spills" [] x0 D true 0 (d + 3) cN sN (0, res) s46 28 [(0, .ref (ad x0 19)), (1, J x1_44), (4, J x4_45)] [] := by
  intro n
  induction n with
  | zero =>
    intro x1_44 x4_45 s46 h
    cases h
  | succ n ih =>
    intro x1_44 x4_45 s46 h
    rw [x6_spills_B_L28] at h
    refine gx_iload 28 2 dX6_spills_28 rfl ?_
    refine gx_iload_n 30 1 dX6_spills_30 rfl ?_
    refine gx_icmp_ge 31 54 dX6_spills_31 (by decide) (fun c48 => ?_) (fun c48 => ?_)
    · replace h := if_t h c48
      refine gx_sub [] rfl ?_
      exact hk54 _ h
    · replace h := if_f h c48
      refine gx_aload_n 34 0 dX6_spills_34 rfl ?_
      refine gx_get (t := 7) (k := 2) (v := .ref (ad x0 34)) 35 cw7 (by decide) (tgs (show stc 19 = (7, 0) by decide) (by decide)) q431 same_f (rf_ne (nes (show stc 34 = (101, 6) by decide) (by decide))) dX6_spills_35 ?_
      refine gx_iload 38 2 dX6_spills_38 rfl ?_
      refine gx_aload_n 40 0 dX6_spills_40 rfl ?_
      refine gx_get (t := 7) (k := 3) (v := .ref (ad x0 35)) 41 cw7 (by decide) (tgs (show stc 19 = (7, 0) by decide) (by decide)) q434 same_f (rf_ne (nes (show stc 35 = (101, 6) by decide) (by decide))) dX6_spills_41 ?_
      refine gx_iload 44 2 dX6_spills_44 rfl ?_
      obtain ⟨g49, h⟩ := gd_e h
      refine gx_iald 46 (tgs (show stc 35 = (101, 6) by decide) (by decide)) (oks (show stc 35 = (101, 6) by decide) (by decide) g49) dX6_spills_46 ?_
      obtain ⟨g50, h⟩ := gd_e h
      obtain ⟨s51, es51, h⟩ := bnd_e h
      refine gx_iast 47 (tgs (show stc 34 = (101, 6) by decide) (by decide)) (st0 (show stc 34 = (101, 6) by decide) (by decide)) (stm (show stc 34 = (101, 6) by decide) (by decide)) (oks (show stc 34 = (101, 6) by decide) (by decide) g50) es51 dX6_spills_47 ?_
      obtain ⟨x4_52, ex4_52, h⟩ := bnd_e h
      refine gx_iinc 48 2 [(4, J x4_52), (0, .ref (ad x0 19)), (1, J x1_44)] dX6_spills_48 rfl ex4_52 (by decide) rfl ?_
      refine gx_goto 51 28 dX6_spills_51 (by decide) ?_
      refine gx_sub [1, 2, 0] rfl ?_
      exact ih _ _ _ h
theorem mx6_spills_B {rc : Int → Int → Int → XS → Option (Int × XS)} {d : Nat} {x0 : Nat} {D : XD} {a1 : Int} {a2 : Int} {a3 : Int} {s0 : XS} {res : Int × XS} {l : Launch} (hrc : ∀ (v0_ v1_ v2_ : Int) (t_ : XS) (z_ : Int × XS), rc v0_ v1_ v2_ t_ = some z_ → XMet0 l yX6_spills cX6_spills 5 none d true x0 D [.ref (ad x0 19), J v0_, J v1_, J v2_] t_ 0 z_) (h : x6_spills_B rc a1 a2 a3 s0 = some res) : XMet0 l yX6_spills cX6_spills 5 none (d + 3) true x0 D [.ref (ad x0 19), J a1, J a2, J a3] s0 0 res := by
  refine XMet0.ofn [(0, .ref (ad x0 19)), (1, J a1), (2, J a2), (3, J a3)] "VerbAtDusk$Giving" "spills" rfl rfl (plainFor_of_name (by decide)) (Nat.le_of_ble_eq_true rfl) rfl ?_
  unfold x6_spills_B at h
  generalize nC s0 = cN
  generalize nS s0 = sN
  refine gx_iload_n 0 3 dX6_spills_0 rfl ?_
  refine gx_aload_n 1 0 dX6_spills_1 rfl ?_
  refine gx_get (t := 7) (k := 7) (v := J (s0 19 7)) 2 cw7 (by decide) (tgs (show stc 19 = (7, 0) by decide) (by decide)) q442 same_f rfl dX6_spills_2 ?_
  refine gx_icmp_lt 5 9 dX6_spills_5 (by decide) (fun c4 => ?_) (fun c4 => ?_)
  · replace h := if_t h c4
    refine gx_iload_n 9 1 dX6_spills_9 rfl ?_
    refine gx_aload_n 10 0 dX6_spills_10 rfl ?_
    refine gx_get (t := 7) (k := 8) (v := .ref (ad x0 0)) 11 cw7 (by decide) (tgs (show stc 19 = (7, 0) by decide) (by decide)) q444 same_f (rf_ne (nes (show stc 0 = (1, 0) by decide) (by decide))) dX6_spills_11 ?_
    obtain ⟨z5, ez5, h⟩ := opt_e h
    refine gx_callVN (As := []) (rest := [J a1]) (st' := [J z5.1, J a1]) 14 0 cw1 (tgs (show stc 0 = (1, 0) by decide) (by decide)) (mx0_sayings ez5 l) q1291 q147 q1358 q1290 qs33 (by decide +kernel) (by omega) rfl rfl (Nat.le_of_ble_eq_true rfl) dX6_spills_14 rfl ?_
    refine gx_icmp_ne 17 55 dX6_spills_17 (by decide) (fun c6 => ?_) (fun c6 => ?_)
    · replace h := if_f h c6
      refine gx_iconst 55 dX6_spills_55 ?_
      obtain ⟨x4_7, ex4_7, h⟩ := bnd_e h
      refine gx_istore 56 [(4, J x4_7), (0, .ref (ad x0 19)), (1, J a1), (2, J a2), (3, J a3)] dX6_spills_56 (by decide) ex4_7 rfl ?_
      refine gx_sub [1, 2, 3, 4, 0] rfl ?_
      refine wx6_spills_B_L58 hrc (fun s41 h => ?_) FU _ _ _ _ _ h
      · exact gx_vret 130 dX6_spills_130 (rt h)
    · replace h := if_t h c6
      refine gx_aload_n 20 0 dX6_spills_20 rfl ?_
      refine gx_iload_n 21 3 dX6_spills_21 rfl ?_
      obtain ⟨s42, es42, h⟩ := bnd_e h
      refine gx_put (t := 7) (k := 7) (x := a3) (ty := .int) 22 cw7 (by decide) (tgs (show stc 19 = (7, 0) by decide) (by decide)) (st0 (show stc 19 = (7, 0) by decide) (by decide)) (stm (show stc 19 = (7, 0) by decide) (by decide)) q442 same_f rfl (by decide +kernel) rfl rfl (congrArg J (ux_s _ _ _ _)) es42 dX6_spills_22 ?_
      refine gx_iconst 25 dX6_spills_25 ?_
      obtain ⟨x4_43, ex4_43, h⟩ := bnd_e h
      refine gx_istore 26 [(4, J x4_43), (0, .ref (ad x0 19)), (1, J a1), (2, J a2), (3, J a3)] dX6_spills_26 (by decide) ex4_43 rfl ?_
      refine gx_sub [1, 2, 0] rfl ?_
      refine wx6_spills_B_L28 hrc (fun s53 h => ?_) FU _ _ _ h
      · exact gx_vret 54 dX6_spills_54 (rt h)
  · replace h := if_f h c4
    exact gx_vret 8 dX6_spills_8 (rt h)
theorem mx6_spills_n {x0 : Nat} {D : XD} {l : Launch} : ∀ (n : Nat) (v0_ v1_ v2_ : Int) (t_ : XS) (z_ : Int × XS), x6_spills n v0_ v1_ v2_ t_ = some z_ → XMet0 l yX6_spills cX6_spills 5 none (3 * n) true x0 D [.ref (ad x0 19), J v0_, J v1_, J v2_] t_ 0 z_ := by
  intro n
  induction n with
  | zero => intro v0_ v1_ v2_ t_ z_ h; cases h
  | succ n ih =>
    intro v0_ v1_ v2_ t_ z_ h
    rw [x6_spills] at h
    have := mx6_spills_B (d := 3 * n) ih h
    rw [Nat.mul_succ]
    exact this
theorem mx6_spills {x0 : Nat} {D : XD} {v0_ v1_ v2_ : Int} {t_ : XS} {z_ : Int × XS} (h : x6_spills 9 v0_ v1_ v2_ t_ = some z_) (l : Launch) : XMet0 l yX6_spills cX6_spills 5 none 27 true x0 D [.ref (ad x0 19), J v0_, J v1_, J v2_] t_ 0 z_ := mx6_spills_n 9 _ _ _ _ _ h
/-! VerbAtDusk$Giving.spilt -/
noncomputable def x6_spilt (s0 : XS) : Option (Int × XS) :=
  bnd (ux s0 19 7 100000000) fun s1 =>
  Option.bind (x6_spills 9 0 (s1 19 4) 0 s1) fun z2 =>
  some (19, z2.2)
theorem mx6_spilt {x0 : Nat} {D : XD} {s0 : XS} {res : Int × XS} (h : x6_spilt s0 = some res) (l : Launch) : XMet0 l yX6_spilt cX6_spilt 1 (some (.object "VerbAtDusk$Giving")) 28 true x0 D [.ref (ad x0 19)] s0 3 res := by
  refine XMet0.ofn [(0, .ref (ad x0 19))] "VerbAtDusk$Giving" "spilt" rfl rfl (plainFor_of_name (by decide)) (Nat.le_of_ble_eq_true rfl) rfl ?_
  unfold x6_spilt at h
  generalize nC s0 = cN
  generalize nS s0 = sN
  refine gx_aload_n 0 0 dX6_spilt_0 rfl ?_
  refine gx_ldc (v := 100000000) 1 dX6_spilt_1 q1542 (by decide) ?_
  obtain ⟨s1, es1, h⟩ := bnd_e h
  refine gx_put (t := 7) (k := 7) (x := 100000000) (ty := .int) 3 cw7 (by decide) (tgs (show stc 19 = (7, 0) by decide) (by decide)) (st0 (show stc 19 = (7, 0) by decide) (by decide)) (stm (show stc 19 = (7, 0) by decide) (by decide)) q442 same_f rfl (by decide +kernel) rfl rfl (congrArg J (ux_s _ _ _ _)) es1 dX6_spilt_3 ?_
  refine gx_aload_n 6 0 dX6_spilt_6 rfl ?_
  refine gx_iconst 7 dX6_spilt_7 ?_
  refine gx_aload_n 8 0 dX6_spilt_8 rfl ?_
  refine gx_get (t := 7) (k := 4) (v := J (s1 19 4)) 9 cw7 (by decide) (tgs (show stc 19 = (7, 0) by decide) (by decide)) q436 same_f rfl dX6_spilt_9 ?_
  refine gx_iconst 12 dX6_spilt_12 ?_
  obtain ⟨z2, ez2, h⟩ := opt_e h
  refine gx_callV (As := [J 0, J (s1 19 4), J 0]) (rest := []) (st' := []) 13 3 cw7 (tgs (show stc 19 = (7, 0) by decide) (by decide)) (mx6_spills ez2 l) (lw_V q1543 q1545 qs43 q159 q1546) (by decide +kernel) (by decide) rfl rfl (Nat.le_of_ble_eq_true rfl) dX6_spilt_13 rfl ?_
  refine gx_aload_n 16 0 dX6_spilt_16 rfl ?_
  exact gx_aret 17 (Or.inl ⟨_, rfl⟩) dX6_spilt_17 (rt h)
/-! VerbAtDusk$Giving.chooses -/
noncomputable def x6_chooses_B_L22 (rc : Int → Int → Int → Int → XS → Option (Int × XS)) (k118 : Int → XS → Option (Int × XS)) : Nat → Int → Int → Int → Int → Int → Int → Int → XS → Option (Int × XS)
  | 0, _, _, _, _, _, _, _, _ => none
  | n + 1, x1_10, x2_11, x3_12, x4_13, x5_14, x6_15, x8_16, s17 =>
    Option.bind (x0_verbs s17) fun z20 =>
    if i32 z20.1 ≤ i32 x8_16 then
      k118 x6_15 z20.2
    else
      Option.bind (x0_has x3_12 x8_16 z20.2) fun z22 =>
      bnd (fun (x1_23 : Int) (x2_24 : Int) (x3_25 : Int) (x4_26 : Int) (x5_27 : Int) (x6_28 : Int) (x8_29 : Int) (s30 : XS) =>
          bnd (x8_29 + 1) fun x8_31 =>
          x6_chooses_B_L22 rc k118 n x1_23 x2_24 x3_25 x4_26 x5_27 x6_28 x8_31 s30) fun j32 =>
      if i32 z22.1 = 0 then
        j32 x1_10 x2_11 x3_12 x4_13 x5_14 x6_15 x8_16 z22.2
      else
        gd (ok 6 x1_10) <|
        gd (ok 7 x8_16) <|
        Option.bind (rc x2_11 x1_10 (iand x3_12 (ixor (ishl 1 x8_16) (-1))) (x4_13 + 1) z22.2) fun z36 =>
        bnd ((z22.2 (27 + 1 + i32 x1_10) (i32 x8_16)) - z36.1) fun x9_37 =>
        bnd (fun (x1_38 : Int) (x2_39 : Int) (x3_40 : Int) (x4_41 : Int) (x8_42 : Int) (x9_43 : Int) (s44 : XS) =>
            bnd 1 fun x5_45 =>
            if i32 x4_41 = 0 then
              gd (ok 6 0) <|
              bnd (ux s44 35 (i32 0) x8_42) fun s48 =>
              j32 x1_38 x2_39 x3_40 x4_41 x5_45 x9_43 x8_42 s48
            else
              j32 x1_38 x2_39 x3_40 x4_41 x5_45 x9_43 x8_42 s44) fun j49 =>
        if i32 x5_14 = 0 then
          j49 x1_10 x2_11 x3_12 x4_13 x8_16 x9_37 z36.2
        else
          if i64 x6_15 < i64 x9_37 then
            j49 x1_10 x2_11 x3_12 x4_13 x8_16 x9_37 z36.2
          else
            j32 x1_10 x2_11 x3_12 x4_13 x5_14 x6_15 x8_16 z36.2
noncomputable def x6_chooses_B (rc : Int → Int → Int → Int → XS → Option (Int × XS)) (a1 : Int) (a2 : Int) (a3 : Int) (a4 : Int) (s0 : XS) : Option (Int × XS) :=
  if i32 a3 = 0 then
    some (0, s0)
  else
    if i32 a4 = i32 6 then
      some (0, s0)
    else
      bnd 0 fun x5_7 =>
      bnd 0 fun x6_8 =>
      bnd 0 fun x8_9 =>
      x6_chooses_B_L22 rc
        (fun (x6_52 : Int) (s53 : XS) =>
          some (x6_52, s53))
        FU a1 a2 a3 a4 x5_7 x6_8 x8_9 s0
noncomputable def x6_chooses : Nat → Int → Int → Int → Int → XS → Option (Int × XS)
  | 0, _, _, _, _, _ => none
  | n + 1, v0_, v1_, v2_, v3_, t_ => x6_chooses_B (x6_chooses n) v0_ v1_ v2_ v3_ t_
theorem wx6_chooses_B_L22 {l : Launch} {x0 : Nat} {D : XD} {cN sN : Nat} {res : Int × XS} {rc : Int → Int → Int → Int → XS → Option (Int × XS)} {d : Nat} (hrc : ∀ (v0_ v1_ v2_ v3_ : Int) (t_ : XS) (z_ : Int × XS), rc v0_ v1_ v2_ v3_ t_ = some z_ → XMet0 l yX6_chooses cX6_chooses 11 (some .long) d true x0 D [.ref (ad x0 19), J v0_, J v1_, J v2_, J v3_] t_ 2 z_) {k118 : Int → XS → Option (Int × XS)} (hk118 : ∀ (x6_18 : Int) (s19 : XS), k118 x6_18 s19 = some res → GX l cX6_chooses "VerbAtDusk$Giving" 11 (some .long) "chooses" [] x0 D true 2 (d + 3) cN sN (0, res) s19 118 [(6, Lg x6_18)] []) : ∀ (n : Nat) (x1_10 : Int) (x2_11 : Int) (x3_12 : Int) (x4_13 : Int) (x5_14 : Int) (x6_15 : Int) (x8_16 : Int) (s17 : XS), x6_chooses_B_L22 rc k118 n x1_10 x2_11 x3_12 x4_13 x5_14 x6_15 x8_16 s17 = some res → GX l cX6_chooses "VerbAtDusk$Giving" 11 (some .long) "chooses" [] x0 D true 2 (d + 3) cN sN (0, res) s17 22 [(0, .ref (ad x0 19)), (1, J x1_10), (2, J x2_11), (3, J x3_12), (4, J x4_13), (5, J x5_14), (6, Lg x6_15), (8, J x8_16)] [] := by
  intro n
  induction n with
  | zero =>
    intro x1_10 x2_11 x3_12 x4_13 x5_14 x6_15 x8_16 s17 h
    cases h
  | succ n ih =>
    intro x1_10 x2_11 x3_12 x4_13 x5_14 x6_15 x8_16 s17 h
    rw [x6_chooses_B_L22] at h
    refine gx_iload 22 7 dX6_chooses_22 rfl ?_
    refine gx_aload_n 24 0 dX6_chooses_24 rfl ?_
    refine gx_get (t := 7) (k := 8) (v := .ref (ad x0 0)) 25 cw7 (by decide) (tgs (show stc 19 = (7, 0) by decide) (by decide)) q444 same_f (rf_ne (nes (show stc 0 = (1, 0) by decide) (by decide))) dX6_chooses_25 ?_
    obtain ⟨z20, ez20, h⟩ := opt_e h
    refine gx_callVN (As := []) (rest := [J x8_16]) (st' := [J z20.1, J x8_16]) 28 0 cw1 (tgs (show stc 0 = (1, 0) by decide) (by decide)) (mx0_verbs ez20 l) q1309 q147 q1359 q1308 qs34 (by decide +kernel) (by omega) rfl rfl (Nat.le_of_ble_eq_true rfl) dX6_chooses_28 rfl ?_
    refine gx_icmp_ge 31 118 dX6_chooses_31 (by decide) (fun c21 => ?_) (fun c21 => ?_)
    · replace h := if_t h c21
      refine gx_sub [6] rfl ?_
      exact hk118 _ _ h
    · replace h := if_f h c21
      refine gx_iload_n 34 3 dX6_chooses_34 rfl ?_
      refine gx_iload 35 7 dX6_chooses_35 rfl ?_
      obtain ⟨z22, ez22, h⟩ := opt_e h
      refine gx_callSN (As := [J x3_12, J x8_16]) (rest := []) (st' := [J z22.1]) 37 2 (mx0_has ez22 l) q1011 q147 q1469 q1010 (by decide +kernel) (by omega) rfl rfl (Nat.le_of_ble_eq_true rfl) dX6_chooses_37 rfl ?_
      obtain ⟨j32, ej32, h⟩ := bnd_e h
      have hj32 : ∀ (x1_23 : Int) (x2_24 : Int) (x3_25 : Int) (x4_26 : Int) (x5_27 : Int) (x6_28 : Int) (x8_29 : Int) (s30 : XS), j32 x1_23 x2_24 x3_25 x4_26 x5_27 x6_28 x8_29 s30 = some res → GX l cX6_chooses "VerbAtDusk$Giving" 11 (some .long) "chooses" [] x0 D true 2 (d + 3) cN sN (0, res) s30 112 [(0, .ref (ad x0 19)), (1, J x1_23), (2, J x2_24), (3, J x3_25), (4, J x4_26), (5, J x5_27), (6, Lg x6_28), (8, J x8_29)] [] := by
        clear h
        intro x1_23 x2_24 x3_25 x4_26 x5_27 x6_28 x8_29 s30 h
        subst ej32
        obtain ⟨x8_31, ex8_31, h⟩ := bnd_e h
        refine gx_iinc 112 7 [(8, J x8_31), (0, .ref (ad x0 19)), (1, J x1_23), (2, J x2_24), (3, J x3_25), (4, J x4_26), (5, J x5_27), (6, Lg x6_28)] dX6_chooses_112 rfl ex8_31 (by decide) rfl ?_
        refine gx_goto 115 22 dX6_chooses_115 (by decide) ?_
        refine gx_sub [1, 2, 3, 4, 5, 6, 7, 0] rfl ?_
        exact ih _ _ _ _ _ _ _ _ h
      refine gx_if_ne 40 46 dX6_chooses_40 (by decide) (fun c33 => ?_) (fun c33 => ?_)
      · replace h := if_f h c33
        refine gx_aload_n 46 0 dX6_chooses_46 rfl ?_
        refine gx_get (t := 7) (k := 1) (v := .ref (ad x0 27)) 47 cw7 (by decide) (tgs (show stc 19 = (7, 0) by decide) (by decide)) q430 same_f (rf_ne (nes (show stc 27 = (113, 6) by decide) (by decide))) dX6_chooses_47 ?_
        refine gx_iload_n 50 1 dX6_chooses_50 rfl ?_
        obtain ⟨g34, h⟩ := gd_e h
        refine gx_aald (t := 113) (ty := (.array .long)) (r := (27 + 1 + i32 x1_10)) 51 (by decide) rfl (by decide) (tgs (show stc 27 = (113, 6) by decide) (by decide)) (oks (show stc 27 = (113, 6) by decide) (by decide) g34) rfl (nes (s2_well g34) (by decide)) dX6_chooses_51 ?_
        refine gx_iload 52 7 dX6_chooses_52 rfl ?_
        obtain ⟨g35, h⟩ := gd_e h
        refine gx_lald 54 (tgs (s2_well g34) (by decide)) (oks (s2_well g34) (by decide) g35) dX6_chooses_54 ?_
        refine gx_aload_n 55 0 dX6_chooses_55 rfl ?_
        refine gx_iload_n 56 2 dX6_chooses_56 rfl ?_
        refine gx_iload_n 57 1 dX6_chooses_57 rfl ?_
        refine gx_iload_n 58 3 dX6_chooses_58 rfl ?_
        refine gx_iconst 59 dX6_chooses_59 ?_
        refine gx_iload 60 7 dX6_chooses_60 rfl ?_
        refine gx_ishl 62 dX6_chooses_62 ?_
        refine gx_iconst 63 dX6_chooses_63 ?_
        refine gx_ixor 64 dX6_chooses_64 ?_
        refine gx_iand 65 dX6_chooses_65 ?_
        refine gx_iload 66 4 dX6_chooses_66 rfl ?_
        refine gx_iconst 68 dX6_chooses_68 ?_
        refine gx_iadd 69 dX6_chooses_69 ?_
        obtain ⟨z36, ez36, h⟩ := opt_e h
        refine gx_callV (As := [J x2_11, J x1_10, J (iand x3_12 (ixor (ishl 1 x8_16) (-1))), J (x4_13 + 1)]) (rest := [Lg (z22.2 (27 + 1 + i32 x1_10) (i32 x8_16))]) (st' := [Lg z36.1, Lg (z22.2 (27 + 1 + i32 x1_10) (i32 x8_16))]) 70 4 cw7 (tgs (show stc 19 = (7, 0) by decide) (by decide)) (hrc _ _ _ _ _ _ ez36) (lw_V q1555 q1553 qs44 q159 q1554) (by decide +kernel) (by omega) rfl rfl (Nat.le_of_ble_eq_true rfl) dX6_chooses_70 rfl ?_
        refine gx_lsub 73 dX6_chooses_73 ?_
        obtain ⟨x9_37, ex9_37, h⟩ := bnd_e h
        refine gx_lstore 74 [(9, Lg x9_37), (0, .ref (ad x0 19)), (1, J x1_10), (2, J x2_11), (3, J x3_12), (4, J x4_13), (5, J x5_14), (6, Lg x6_15), (8, J x8_16)] dX6_chooses_74 (by decide) ex9_37 rfl ?_
        refine gx_iload 76 6 dX6_chooses_76 rfl ?_
        obtain ⟨j49, ej49, h⟩ := bnd_e h
        have hj49 : ∀ (x1_38 : Int) (x2_39 : Int) (x3_40 : Int) (x4_41 : Int) (x8_42 : Int) (x9_43 : Int) (s44 : XS), j49 x1_38 x2_39 x3_40 x4_41 x8_42 x9_43 s44 = some res → GX l cX6_chooses "VerbAtDusk$Giving" 11 (some .long) "chooses" [] x0 D true 2 (d + 3) cN sN (0, res) s44 92 [(0, .ref (ad x0 19)), (1, J x1_38), (2, J x2_39), (3, J x3_40), (4, J x4_41), (8, J x8_42), (9, Lg x9_43)] [] := by
          clear h
          intro x1_38 x2_39 x3_40 x4_41 x8_42 x9_43 s44 h
          subst ej49
          refine gx_iconst 92 dX6_chooses_92 ?_
          obtain ⟨x5_45, ex5_45, h⟩ := bnd_e h
          refine gx_istore 93 [(5, J x5_45), (0, .ref (ad x0 19)), (1, J x1_38), (2, J x2_39), (3, J x3_40), (4, J x4_41), (8, J x8_42), (9, Lg x9_43)] dX6_chooses_93 (by decide) ex5_45 rfl ?_
          refine gx_lload 95 7 dX6_chooses_95 rfl ?_
          refine gx_lstore 97 [(6, Lg x9_43), (5, J x5_45), (0, .ref (ad x0 19)), (1, J x1_38), (2, J x2_39), (3, J x3_40), (4, J x4_41), (8, J x8_42), (9, Lg x9_43)] dX6_chooses_97 (by decide) rfl rfl ?_
          refine gx_iload 99 6 dX6_chooses_99 rfl ?_
          refine gx_if_ne 101 112 dX6_chooses_101 (by decide) (fun c46 => ?_) (fun c46 => ?_)
          · replace h := if_f h c46
            refine gx_sub [2, 3, 4, 5, 6, 1, 0, 7] rfl ?_
            exact hj32 _ _ _ _ _ _ _ _ h
          · replace h := if_t h c46
            refine gx_aload_n 104 2 dX6_chooses_104 rfl ?_
            refine gx_get (t := 7) (k := 3) (v := .ref (ad x0 35)) 105 cw7 (by decide) (tgs (show stc 19 = (7, 0) by decide) (by decide)) q434 same_f (rf_ne (nes (show stc 35 = (101, 6) by decide) (by decide))) dX6_chooses_105 ?_
            refine gx_iconst 108 dX6_chooses_108 ?_
            refine gx_iload 109 7 dX6_chooses_109 rfl ?_
            obtain ⟨g47, h⟩ := gd_e h
            obtain ⟨s48, es48, h⟩ := bnd_e h
            refine gx_iast 111 (tgs (show stc 35 = (101, 6) by decide) (by decide)) (st0 (show stc 35 = (101, 6) by decide) (by decide)) (stm (show stc 35 = (101, 6) by decide) (by decide)) (oks (show stc 35 = (101, 6) by decide) (by decide) g47) es48 dX6_chooses_111 ?_
            refine gx_sub [2, 3, 4, 5, 6, 1, 0, 7] rfl ?_
            exact hj32 _ _ _ _ _ _ _ _ h
        refine gx_if_eq 78 92 dX6_chooses_78 (by decide) (fun c50 => ?_) (fun c50 => ?_)
        · replace h := if_t h c50
          refine gx_sub [1, 2, 3, 4, 5, 8, 0] rfl ?_
          exact hj49 _ _ _ _ _ _ _ h
        · replace h := if_f h c50
          refine gx_lload 81 0 dX6_chooses_81 rfl ?_
          refine gx_lload 83 7 dX6_chooses_83 rfl ?_
          refine gx_lcmp_gt 85 92 dX6_chooses_85 dX6_chooses_86 (by decide) (fun c51 => ?_) (fun c51 => ?_)
          · replace h := if_t h c51
            refine gx_sub [1, 2, 3, 4, 5, 8, 0] rfl ?_
            exact hj49 _ _ _ _ _ _ _ h
          · replace h := if_f h c51
            refine gx_goto 89 112 dX6_chooses_89 (by decide) ?_
            refine gx_sub [1, 2, 3, 4, 5, 6, 7, 8] rfl ?_
            exact hj32 _ _ _ _ _ _ _ _ h
      · replace h := if_t h c33
        refine gx_goto 43 112 dX6_chooses_43 (by decide) ?_
        refine gx_sub [0, 1, 2, 3, 4, 5, 6, 7] rfl ?_
        exact hj32 _ _ _ _ _ _ _ _ h
theorem mx6_chooses_B {rc : Int → Int → Int → Int → XS → Option (Int × XS)} {d : Nat} {x0 : Nat} {D : XD} {a1 : Int} {a2 : Int} {a3 : Int} {a4 : Int} {s0 : XS} {res : Int × XS} {l : Launch} (hrc : ∀ (v0_ v1_ v2_ v3_ : Int) (t_ : XS) (z_ : Int × XS), rc v0_ v1_ v2_ v3_ t_ = some z_ → XMet0 l yX6_chooses cX6_chooses 11 (some .long) d true x0 D [.ref (ad x0 19), J v0_, J v1_, J v2_, J v3_] t_ 2 z_) (h : x6_chooses_B rc a1 a2 a3 a4 s0 = some res) : XMet0 l yX6_chooses cX6_chooses 11 (some .long) (d + 3) true x0 D [.ref (ad x0 19), J a1, J a2, J a3, J a4] s0 2 res := by
  refine XMet0.ofn [(0, .ref (ad x0 19)), (1, J a1), (2, J a2), (3, J a3), (4, J a4)] "VerbAtDusk$Giving" "chooses" rfl rfl (plainFor_of_name (by decide)) (Nat.le_of_ble_eq_true rfl) rfl ?_
  unfold x6_chooses_B at h
  generalize nC s0 = cN
  generalize nS s0 = sN
  refine gx_iload_n 0 3 dX6_chooses_0 rfl ?_
  refine gx_if_eq 1 11 dX6_chooses_1 (by decide) (fun c5 => ?_) (fun c5 => ?_)
  · replace h := if_t h c5
    refine gx_lconst (v := 0) 11 dX6_chooses_11 (by decide) ?_
    exact gx_lret 12 dX6_chooses_12 (rt h)
  · replace h := if_f h c5
    refine gx_iload 4 4 dX6_chooses_4 rfl ?_
    refine gx_bipush 6 dX6_chooses_6 (by decide) ?_
    refine gx_icmp_ne 8 13 dX6_chooses_8 (by decide) (fun c6 => ?_) (fun c6 => ?_)
    · replace h := if_f h c6
      refine gx_iconst 13 dX6_chooses_13 ?_
      obtain ⟨x5_7, ex5_7, h⟩ := bnd_e h
      refine gx_istore 14 [(5, J x5_7), (0, .ref (ad x0 19)), (1, J a1), (2, J a2), (3, J a3), (4, J a4)] dX6_chooses_14 (by decide) ex5_7 rfl ?_
      refine gx_lconst (v := 0) 16 dX6_chooses_16 (by decide) ?_
      obtain ⟨x6_8, ex6_8, h⟩ := bnd_e h
      refine gx_lstore 17 [(6, Lg x6_8), (5, J x5_7), (0, .ref (ad x0 19)), (1, J a1), (2, J a2), (3, J a3), (4, J a4)] dX6_chooses_17 (by decide) ex6_8 rfl ?_
      refine gx_iconst 19 dX6_chooses_19 ?_
      obtain ⟨x8_9, ex8_9, h⟩ := bnd_e h
      refine gx_istore 20 [(8, J x8_9), (6, Lg x6_8), (5, J x5_7), (0, .ref (ad x0 19)), (1, J a1), (2, J a2), (3, J a3), (4, J a4)] dX6_chooses_20 (by decide) ex8_9 rfl ?_
      refine gx_sub [3, 4, 5, 6, 7, 2, 1, 0] rfl ?_
      refine wx6_chooses_B_L22 hrc (fun x6_52 s53 h => ?_) FU _ _ _ _ _ _ _ _ h
      · refine gx_lload 118 0 dX6_chooses_118 rfl ?_
        exact gx_lret 120 dX6_chooses_120 (rt h)
    · replace h := if_t h c6
      refine gx_lconst (v := 0) 11 dX6_chooses_11 (by decide) ?_
      exact gx_lret 12 dX6_chooses_12 (rt h)
theorem mx6_chooses_n {x0 : Nat} {D : XD} {l : Launch} : ∀ (n : Nat) (v0_ v1_ v2_ v3_ : Int) (t_ : XS) (z_ : Int × XS), x6_chooses n v0_ v1_ v2_ v3_ t_ = some z_ → XMet0 l yX6_chooses cX6_chooses 11 (some .long) (3 * n) true x0 D [.ref (ad x0 19), J v0_, J v1_, J v2_, J v3_] t_ 2 z_ := by
  intro n
  induction n with
  | zero => intro v0_ v1_ v2_ v3_ t_ z_ h; cases h
  | succ n ih =>
    intro v0_ v1_ v2_ v3_ t_ z_ h
    rw [x6_chooses] at h
    have := mx6_chooses_B (d := 3 * n) ih h
    rw [Nat.mul_succ]
    exact this
theorem mx6_chooses {x0 : Nat} {D : XD} {v0_ v1_ v2_ v3_ : Int} {t_ : XS} {z_ : Int × XS} (h : x6_chooses 9 v0_ v1_ v2_ v3_ t_ = some z_) (l : Launch) : XMet0 l yX6_chooses cX6_chooses 11 (some .long) 27 true x0 D [.ref (ad x0 19), J v0_, J v1_, J v2_, J v3_] t_ 2 z_ := mx6_chooses_n 9 _ _ _ _ _ _ h
/-! VerbAtDusk$State.passes -/
noncomputable def x7_passes_L35 (a0 : Int) (k99 : Int → XS → Option (Int × XS)) : Nat → Int → Int → Int → Int → XS → Option (Int × XS)
  | 0, _, _, _, _, _ => none
  | n + 1, x1_10, x2_11, x3_12, x4_13, s14 =>
    Option.bind (x0_sayings s14) fun z17 =>
    if i32 z17.1 ≤ i32 x4_13 then
      k99 x3_12 z17.2
    else
      gd (ok 6 x4_13) <|
      bnd (ux z17.2 (a0 + 4) (i32 x4_13) (-1)) fun s20 =>
      bnd (fun (x1_21 : Int) (x2_22 : Int) (x3_23 : Int) (x4_24 : Int) (s25 : XS) =>
          bnd (x4_24 + 1) fun x4_26 =>
          x7_passes_L35 a0 k99 n x1_21 x2_22 x3_23 x4_26 s25) fun j27 =>
      if i32 x2_11 = 0 then
        j27 x1_10 x2_11 x3_12 x4_13 s20
      else
        Option.bind (x0_has x1_10 x4_13 s20) fun z29 =>
        if i32 z29.1 = 0 then
          gd (ok 6 x4_13) <|
          Option.bind (x7_gives a0 x4_13 (z29.2 34 (i32 x4_13)) z29.2) fun z32 =>
          bnd (x3_12 + 1) fun x3_33 =>
          j27 x1_10 x2_11 x3_33 x4_13 z32.2
        else
          j27 x1_10 x2_11 x3_12 x4_13 z29.2
noncomputable def x7_passes (a0 : Int) (s0 : XS) : Option (Int × XS) :=
  gd (isSt a0) <|
  Option.bind (x5_by a0 s0) fun z1 =>
  gd (z1.1 = 14) <|
  Option.bind (x5_dark z1.2) fun z3 =>
  bnd z3.1 fun x1_4 =>
  Option.bind (x6_by a0 z3.2) fun z5 =>
  gd (z5.1 = 19) <|
  bnd (z5.2 19 5) fun x2_7 =>
  bnd 0 fun x3_8 =>
  bnd 0 fun x4_9 =>
  x7_passes_L35 a0
    (fun (x3_34 : Int) (s35 : XS) =>
      bnd (ux s35 a0 0 ((s35 a0 0) + 1)) fun s36 =>
      some (x3_34, s36))
    FU x1_4 x2_7 x3_8 x4_9 z5.2
theorem wx7_passes_L35 {l : Launch} {x0 : Nat} {D : XD} {cN sN : Nat} {res : Int × XS} {a0 : Int} (ga0 : isSt a0) {k99 : Int → XS → Option (Int × XS)} (hk99 : ∀ (x3_15 : Int) (s16 : XS), k99 x3_15 s16 = some res → GX l cX7_passes "VerbAtDusk$State" 5 (some .int) "passes" [] x0 D true 1 711 cN sN (0, res) s16 99 [(0, .ref (ad x0 a0)), (3, J x3_15)] []) : ∀ (n : Nat) (x1_10 : Int) (x2_11 : Int) (x3_12 : Int) (x4_13 : Int) (s14 : XS), x7_passes_L35 a0 k99 n x1_10 x2_11 x3_12 x4_13 s14 = some res → GX l cX7_passes "VerbAtDusk$State" 5 (some .int) "passes" [] x0 D true 1 711 cN sN (0, res) s14 35 [(0, .ref (ad x0 a0)), (1, J x1_10), (2, J x2_11), (3, J x3_12), (4, J x4_13)] [] := by
  intro n
  induction n with
  | zero =>
    intro x1_10 x2_11 x3_12 x4_13 s14 h
    cases h
  | succ n ih =>
    intro x1_10 x2_11 x3_12 x4_13 s14 h
    rw [x7_passes_L35] at h
    refine gx_iload 35 4 dX7_passes_35 rfl ?_
    refine gx_aload_n 37 0 dX7_passes_37 rfl ?_
    refine gx_get (t := 8) (k := 9) (v := .ref (ad x0 0)) 38 cw8 (by decide) (tgs (st_0 ga0) (by decide)) q493 same_f (rf_ne (nes (show stc 0 = (1, 0) by decide) (by decide))) dX7_passes_38 ?_
    obtain ⟨z17, ez17, h⟩ := opt_e h
    refine gx_callVN (As := []) (rest := [J x4_13]) (st' := [J z17.1, J x4_13]) 41 0 cw1 (tgs (show stc 0 = (1, 0) by decide) (by decide)) (mx0_sayings ez17 l) q1291 q147 q1288 q1290 qs33 (by decide +kernel) (by decide) rfl rfl (Nat.le_of_ble_eq_true rfl) dX7_passes_41 rfl ?_
    refine gx_icmp_ge 44 99 dX7_passes_44 (by decide) (fun c18 => ?_) (fun c18 => ?_)
    · replace h := if_t h c18
      refine gx_sub [0, 3] rfl ?_
      exact hk99 _ _ h
    · replace h := if_f h c18
      refine gx_aload_n 47 0 dX7_passes_47 rfl ?_
      refine gx_get (t := 8) (k := 6) (v := .ref (ad x0 (a0 + 4))) 48 cw8 (by decide) (tgs (st_0 ga0) (by decide)) q487 same_f (rf_ne (nes (st_4 ga0) (by decide))) dX7_passes_48 ?_
      refine gx_iload 51 4 dX7_passes_51 rfl ?_
      refine gx_iconst 53 dX7_passes_53 ?_
      obtain ⟨g19, h⟩ := gd_e h
      obtain ⟨s20, es20, h⟩ := bnd_e h
      refine gx_iast 54 (tgs (st_4 ga0) (by decide)) (st0 (st_4 ga0) (by decide)) (stm (st_4 ga0) (by decide)) (oks (st_4 ga0) (by decide) g19) es20 dX7_passes_54 ?_
      refine gx_iload_n 55 2 dX7_passes_55 rfl ?_
      obtain ⟨j27, ej27, h⟩ := bnd_e h
      have hj27 : ∀ (x1_21 : Int) (x2_22 : Int) (x3_23 : Int) (x4_24 : Int) (s25 : XS), j27 x1_21 x2_22 x3_23 x4_24 s25 = some res → GX l cX7_passes "VerbAtDusk$State" 5 (some .int) "passes" [] x0 D true 1 711 cN sN (0, res) s25 93 [(0, .ref (ad x0 a0)), (1, J x1_21), (2, J x2_22), (3, J x3_23), (4, J x4_24)] [] := by
        clear h
        intro x1_21 x2_22 x3_23 x4_24 s25 h
        subst ej27
        obtain ⟨x4_26, ex4_26, h⟩ := bnd_e h
        refine gx_iinc 93 4 [(4, J x4_26), (0, .ref (ad x0 a0)), (1, J x1_21), (2, J x2_22), (3, J x3_23)] dX7_passes_93 rfl ex4_26 (by decide) rfl ?_
        refine gx_goto 96 35 dX7_passes_96 (by decide) ?_
        refine gx_sub [1, 2, 3, 4, 0] rfl ?_
        exact ih _ _ _ _ _ h
      refine gx_if_eq 56 93 dX7_passes_56 (by decide) (fun c28 => ?_) (fun c28 => ?_)
      · replace h := if_t h c28
        refine gx_sub [0, 1, 2, 3, 4] rfl ?_
        exact hj27 _ _ _ _ _ h
      · replace h := if_f h c28
        refine gx_iload_n 59 1 dX7_passes_59 rfl ?_
        refine gx_iload 60 4 dX7_passes_60 rfl ?_
        obtain ⟨z29, ez29, h⟩ := opt_e h
        refine gx_callSN (As := [J x1_10, J x4_13]) (rest := []) (st' := [J z29.1]) 62 2 (mx0_has ez29 l) q1011 q147 q1579 q1010 (by decide +kernel) (by decide) rfl rfl (Nat.le_of_ble_eq_true rfl) dX7_passes_62 rfl ?_
        refine gx_if_eq 65 71 dX7_passes_65 (by decide) (fun c30 => ?_) (fun c30 => ?_)
        · replace h := if_t h c30
          refine gx_aload_n 71 0 dX7_passes_71 rfl ?_
          refine gx_iload 72 4 dX7_passes_72 rfl ?_
          refine gx_aload_n 74 0 dX7_passes_74 rfl ?_
          refine gx_get (t := 8) (k := 9) (v := .ref (ad x0 0)) 75 cw8 (by decide) (tgs (st_0 ga0) (by decide)) q493 same_f (rf_ne (nes (show stc 0 = (1, 0) by decide) (by decide))) dX7_passes_75 ?_
          refine gx_getN (t := 1) (k := 10) (v := .ref (ad x0 19)) 78 cw1 (by decide) (tgs (show stc 0 = (1, 0) by decide) (by decide)) q533 same_f (rf_ne (nes (show stc 19 = (7, 0) by decide) (by decide))) dX7_passes_78 ?_
          refine gx_getN (t := 7) (k := 2) (v := .ref (ad x0 34)) 81 cw7 (by decide) (tgs (show stc 19 = (7, 0) by decide) (by decide)) q432 same_f (rf_ne (nes (show stc 34 = (101, 6) by decide) (by decide))) dX7_passes_81 ?_
          refine gx_iload 84 4 dX7_passes_84 rfl ?_
          obtain ⟨g31, h⟩ := gd_e h
          refine gx_iald 86 (tgs (show stc 34 = (101, 6) by decide) (by decide)) (oks (show stc 34 = (101, 6) by decide) (by decide) g31) dX7_passes_86 ?_
          obtain ⟨z32, ez32, h⟩ := opt_e h
          refine gx_callV (As := [J x4_13, J (z29.2 34 (i32 x4_13))]) (rest := []) (st' := []) 87 2 cw8 (tgs (st_0 ga0) (by decide)) (mx7_gives ez32 l) (lw_V q1580 q1582 qs46 q160 q1583) (by decide +kernel) (by decide) rfl rfl (Nat.le_of_ble_eq_true rfl) dX7_passes_87 rfl ?_
          obtain ⟨x3_33, ex3_33, h⟩ := bnd_e h
          refine gx_iinc 90 3 [(3, J x3_33), (0, .ref (ad x0 a0)), (1, J x1_10), (2, J x2_11), (4, J x4_13)] dX7_passes_90 rfl ex3_33 (by decide) rfl ?_
          refine gx_sub [1, 2, 3, 0, 4] rfl ?_
          exact hj27 _ _ _ _ _ h
        · replace h := if_f h c30
          refine gx_goto 68 93 dX7_passes_68 (by decide) ?_
          refine gx_sub [0, 1, 2, 3, 4] rfl ?_
          exact hj27 _ _ _ _ _ h
theorem mx7_passes {x0 : Nat} {D : XD} {a0 : Int} {s0 : XS} {res : Int × XS} (h : x7_passes a0 s0 = some res) (l : Launch) : XMet0 l yX7_passes cX7_passes 5 (some .int) 711 true x0 D [.ref (ad x0 a0)] s0 1 res := by
  refine XMet0.ofn [(0, .ref (ad x0 a0))] "VerbAtDusk$State" "passes" rfl rfl (plainFor_of_name (by decide)) (Nat.le_of_ble_eq_true rfl) rfl ?_
  unfold x7_passes at h
  generalize nC s0 = cN
  generalize nS s0 = sN
  obtain ⟨ga0, h⟩ := gd_e h
  refine gx_aload_n 0 0 dX7_passes_0 rfl ?_
  refine gx_get (t := 8) (k := 9) (v := .ref (ad x0 0)) 1 cw8 (by decide) (tgs (st_0 ga0) (by decide)) q493 same_f (rf_ne (nes (show stc 0 = (1, 0) by decide) (by decide))) dX7_passes_1 ?_
  refine gx_getN (t := 1) (k := 9) (v := .ref (ad x0 14)) 4 cw1 (by decide) (tgs (show stc 0 = (1, 0) by decide) (by decide)) q531 same_f (rf_ne (nes (show stc 14 = (6, 0) by decide) (by decide))) dX7_passes_4 ?_
  refine gx_aload_n 7 0 dX7_passes_7 rfl ?_
  obtain ⟨z1, ez1, h⟩ := opt_e h
  refine gx_callV (As := [.ref (ad x0 a0)]) (rest := []) (st' := [.ref (ad x0 z1.1)]) 8 1 cw6 (tgs (show stc 14 = (6, 0) by decide) (by decide)) (mx5_by ez1 l) (lw_V q1576 q1471 q1472 q158 q1473) (by decide +kernel) (by decide) rfl rfl (Nat.le_of_ble_eq_true rfl) dX7_passes_8 rfl ?_
  obtain ⟨g2, h⟩ := gd_e h
  rw [g2]
  obtain ⟨z3, ez3, h⟩ := opt_e h
  refine gx_callV (As := []) (rest := []) (st' := [J z3.1]) 11 0 cw6 (tgs (show stc 14 = (6, 0) by decide) (by decide)) (mx5_dark ez3 l) (lw_V q1577 q1485 q1486 q158 q1487) (by decide +kernel) (by decide) rfl rfl (Nat.le_of_ble_eq_true rfl) dX7_passes_11 rfl ?_
  obtain ⟨x1_4, ex1_4, h⟩ := bnd_e h
  refine gx_istore_n 14 [(1, J x1_4), (0, .ref (ad x0 a0))] dX7_passes_14 (by decide) ex1_4 rfl ?_
  refine gx_aload_n 15 1 dX7_passes_15 rfl ?_
  refine gx_get (t := 8) (k := 9) (v := .ref (ad x0 0)) 16 cw8 (by decide) (tgs (st_0 ga0) (by decide)) q493 same_f (rf_ne (nes (show stc 0 = (1, 0) by decide) (by decide))) dX7_passes_16 ?_
  refine gx_getN (t := 1) (k := 10) (v := .ref (ad x0 19)) 19 cw1 (by decide) (tgs (show stc 0 = (1, 0) by decide) (by decide)) q533 same_f (rf_ne (nes (show stc 19 = (7, 0) by decide) (by decide))) dX7_passes_19 ?_
  refine gx_aload_n 22 1 dX7_passes_22 rfl ?_
  obtain ⟨z5, ez5, h⟩ := opt_e h
  refine gx_callV (As := [.ref (ad x0 a0)]) (rest := []) (st' := [.ref (ad x0 z5.1)]) 23 1 cw7 (tgs (show stc 19 = (7, 0) by decide) (by decide)) (mx6_by ez5 l) (lw_V q1578 q1355 q1356 q159 q1357) (by decide +kernel) (by decide) rfl rfl (Nat.le_of_ble_eq_true rfl) dX7_passes_23 rfl ?_
  obtain ⟨g6, h⟩ := gd_e h
  rw [g6]
  refine gx_getN (t := 7) (k := 5) (v := J (z5.2 19 5)) 26 cw7 (by decide) (tgs (show stc 19 = (7, 0) by decide) (by decide)) q438 same_f rfl dX7_passes_26 ?_
  obtain ⟨x2_7, ex2_7, h⟩ := bnd_e h
  refine gx_istore_n 29 [(2, J x2_7), (1, J x1_4), (0, .ref (ad x0 a0))] dX7_passes_29 (by decide) ex2_7 rfl ?_
  refine gx_iconst 30 dX7_passes_30 ?_
  obtain ⟨x3_8, ex3_8, h⟩ := bnd_e h
  refine gx_istore_n 31 [(3, J x3_8), (2, J x2_7), (1, J x1_4), (0, .ref (ad x0 a0))] dX7_passes_31 (by decide) ex3_8 rfl ?_
  refine gx_iconst 32 dX7_passes_32 ?_
  obtain ⟨x4_9, ex4_9, h⟩ := bnd_e h
  refine gx_istore 33 [(4, J x4_9), (3, J x3_8), (2, J x2_7), (1, J x1_4), (0, .ref (ad x0 a0))] dX7_passes_33 (by decide) ex4_9 rfl ?_
  refine gx_sub [4, 3, 2, 1, 0] rfl ?_
  refine wx7_passes_L35 ga0 (fun x3_34 s35 h => ?_) FU _ _ _ _ _ h
  · refine gx_aload_n 99 0 dX7_passes_99 rfl ?_
    refine gx_dup 100 dX7_passes_100 rfl ?_
    refine gx_get (t := 8) (k := 0) (v := J (s35 a0 0)) 101 cw8 (by decide) (tgs (st_0 ga0) (by decide)) q473 same_f rfl dX7_passes_101 ?_
    refine gx_iconst 104 dX7_passes_104 ?_
    refine gx_iadd 105 dX7_passes_105 ?_
    obtain ⟨s36, es36, h⟩ := bnd_e h
    refine gx_put (t := 8) (k := 0) (x := ((s35 a0 0) + 1)) (ty := .int) 106 cw8 (by decide) (tgs (st_0 ga0) (by decide)) (st0 (st_0 ga0) (by decide)) (stm (st_0 ga0) (by decide)) q473 same_f rfl (by decide +kernel) rfl rfl (congrArg J (ux_s _ _ _ _)) es36 dX7_passes_106 ?_
    refine gx_iload_n 109 1 dX7_passes_109 rfl ?_
    exact gx_iret 110 dX7_passes_110 (rt h)
/-! VerbAtDusk.draw -/
noncomputable def x0_draw (a1 : Int) (s0 : XS) : Option (Int × XS) :=
  bnd (ux s0 0 20 (lrem ((1103515245 * (s0 0 20)) + 12345) 2147483648)) fun s2 =>
  gd (¬ i64 (i32 a1) = 0) <|
  some ((lrem (ldiv (s2 0 20) 64) (i32 a1)), s2)
theorem mx0_draw {x0 : Nat} {D : XD} {a1 : Int} {s0 : XS} {res : Int × XS} (h : x0_draw a1 s0 = some res) (l : Launch) : XMet0 l yX0_draw cX0_draw 2 (some .int) 1 true x0 D [.ref (ad x0 0), J a1] s0 1 res := by
  refine XMet0.ofn [(0, .ref (ad x0 0)), (1, J a1)] "VerbAtDusk" "draw" rfl rfl (plainFor_of_name (by decide)) (Nat.le_of_ble_eq_true rfl) rfl ?_
  unfold x0_draw at h
  generalize nC s0 = cN
  generalize nS s0 = sN
  refine gx_aload_n 0 0 dX0_draw_0 rfl ?_
  refine gx_ldc2 (v := 1103515245) 1 dX0_draw_1 q1655 (by decide) ?_
  refine gx_aload_n 4 0 dX0_draw_4 rfl ?_
  refine gx_get (t := 1) (k := 20) (v := Lg (s0 0 20)) 5 cw1 (by decide) (tgs (show stc 0 = (1, 0) by decide) (by decide)) q543 same_f rfl dX0_draw_5 ?_
  refine gx_lmul 8 dX0_draw_8 ?_
  refine gx_ldc2 (v := 12345) 9 dX0_draw_9 q1656 (by decide) ?_
  refine gx_ladd 12 dX0_draw_12 ?_
  refine gx_ldc2 (v := 2147483648) 13 dX0_draw_13 q1657 (by decide) ?_
  refine gx_lrem 16 dX0_draw_16 (by decide) ?_
  obtain ⟨s2, es2, h⟩ := bnd_e h
  refine gx_put (t := 1) (k := 20) (x := (lrem ((1103515245 * (s0 0 20)) + 12345) 2147483648)) (ty := .long) 17 cw1 (by decide) (tgs (show stc 0 = (1, 0) by decide) (by decide)) (st0 (show stc 0 = (1, 0) by decide) (by decide)) (stm (show stc 0 = (1, 0) by decide) (by decide)) q543 same_f rfl (by decide +kernel) rfl rfl (congrArg Lg (ux_s _ _ _ _)) es2 dX0_draw_17 ?_
  refine gx_aload_n 20 0 dX0_draw_20 rfl ?_
  refine gx_get (t := 1) (k := 20) (v := Lg (s2 0 20)) 21 cw1 (by decide) (tgs (show stc 0 = (1, 0) by decide) (by decide)) q543 same_f rfl dX0_draw_21 ?_
  refine gx_ldc2 (v := 64) 24 dX0_draw_24 q1658 (by decide) ?_
  refine gx_ldiv 27 dX0_draw_27 (by decide) ?_
  refine gx_iload_n 28 1 dX0_draw_28 rfl ?_
  refine gx_i2l 29 dX0_draw_29 ?_
  obtain ⟨g3, h⟩ := gd_e h
  refine gx_lrem 30 dX0_draw_30 g3 ?_
  refine gx_l2i 31 dX0_draw_31 ?_
  exact gx_iret 32 dX0_draw_32 (rt h)
/-! VerbAtDusk$State.spills -/
noncomputable def x7_spills_L37 (a0 : Int) (k73 : Int → Int → Int → XS → Option (Int × XS)) : Nat → Int → Int → Int → Int → XS → Option (Int × XS)
  | 0, _, _, _, _, _ => none
  | n + 1, x1_15, x2_16, x3_17, x4_18, s19 =>
    Option.bind (x0_has x1_15 x4_18 s19) fun z24 =>
    bnd (fun (x1_25 : Int) (x2_26 : Int) (x3_27 : Int) (x4_28 : Int) (s29 : XS) =>
        Option.bind (x0_has x1_25 x4_28 s29) fun z30 =>
        bnd (fun (x1_31 : Int) (x2_32 : Int) (x4_33 : Int) (w34 : Int) (w35 : Int) (s36 : XS) =>
            bnd (w35 - w34) fun x3_37 =>
            bnd (x4_33 + 1) fun x4_38 =>
            x7_spills_L37 a0 k73 n x1_31 x2_32 x3_37 x4_38 s36) fun j39 =>
        if i32 z30.1 = 0 then
          j39 x1_25 x2_26 x4_28 0 x3_27 z30.2
        else
          j39 x1_25 x2_26 x4_28 1 x3_27 z30.2) fun j41 =>
    if i32 z24.1 = 0 then
      j41 x1_15 x2_16 x3_17 x4_18 z24.2
    else
      if i32 x3_17 ≤ 0 then
        k73 x1_15 x2_16 x4_18 z24.2
      else
        j41 x1_15 x2_16 x3_17 x4_18 z24.2
noncomputable def x7_spills_L7 (a0 : Int) (k95 : XS → Option (Int × XS)) : Nat → Int → Int → XS → Option (Int × XS)
  | 0, _, _, _ => none
  | n + 1, x1_4, x2_5, s6 =>
    Option.bind (x0_sayings s6) fun z8 =>
    if i32 z8.1 ≤ i32 x2_5 then
      k95 z8.2
    else
      if i32 x1_4 = 0 then
        k95 z8.2
      else
        Option.bind (j16_bitCount true x1_4 z8.2) fun z11 =>
        Option.bind (x0_draw z11.1 z11.2) fun z12 =>
        bnd z12.1 fun x3_13 =>
        bnd 0 fun x4_14 =>
        x7_spills_L37 a0
          (fun (x1_44 : Int) (x2_45 : Int) (x4_46 : Int) (s47 : XS) =>
            bnd (iand x1_44 (ixor (ishl 1 x4_46) (-1))) fun x1_48 =>
            Option.bind (x7_gives a0 x2_45 x4_46 s47) fun z49 =>
            bnd (x2_45 + 1) fun x2_50 =>
            x7_spills_L7 a0 k95 n x1_48 x2_50 z49.2)
          FU x1_4 x2_5 x3_13 x4_14 z12.2
noncomputable def x7_spills (a0 : Int) (s0 : XS) : Option (Int × XS) :=
  gd (isSt a0) <|
  Option.bind (x7_sack a0 s0) fun z1 =>
  bnd z1.1 fun x1_2 =>
  bnd 0 fun x2_3 =>
  x7_spills_L7 a0
    (fun (s51 : XS) =>
      bnd (ux s51 a0 0 ((s51 a0 0) + 1)) fun s52 =>
      some (0, s52))
    FU x1_2 x2_3 z1.2
theorem wx7_spills_L37 {l : Launch} {x0 : Nat} {D : XD} {cN sN : Nat} {res : Int × XS} {a0 : Int} (ga0 : isSt a0) {k73 : Int → Int → Int → XS → Option (Int × XS)} (hk73 : ∀ (x1_20 : Int) (x2_21 : Int) (x4_22 : Int) (s23 : XS), k73 x1_20 x2_21 x4_22 s23 = some res → GX l cX7_spills "VerbAtDusk$State" 5 none "spills" [] x0 D true 0 453 cN sN (0, res) s23 73 [(0, .ref (ad x0 a0)), (1, J x1_20), (2, J x2_21), (4, J x4_22)] []) : ∀ (n : Nat) (x1_15 : Int) (x2_16 : Int) (x3_17 : Int) (x4_18 : Int) (s19 : XS), x7_spills_L37 a0 k73 n x1_15 x2_16 x3_17 x4_18 s19 = some res → GX l cX7_spills "VerbAtDusk$State" 5 none "spills" [] x0 D true 0 453 cN sN (0, res) s19 37 [(0, .ref (ad x0 a0)), (1, J x1_15), (2, J x2_16), (3, J x3_17), (4, J x4_18)] [] := by
  intro n
  induction n with
  | zero =>
    intro x1_15 x2_16 x3_17 x4_18 s19 h
    cases h
  | succ n ih =>
    intro x1_15 x2_16 x3_17 x4_18 s19 h
    rw [x7_spills_L37] at h
    refine gx_iload_n 37 1 dX7_spills_37 rfl ?_
    refine gx_iload 38 4 dX7_spills_38 rfl ?_
    obtain ⟨z24, ez24, h⟩ := opt_e h
    refine gx_callSN (As := [J x1_15, J x4_18]) (rest := []) (st' := [J z24.1]) 40 2 (mx0_has ez24 l) q1011 q147 q1579 q1010 (by decide +kernel) (by decide) rfl rfl (Nat.le_of_ble_eq_true rfl) dX7_spills_40 rfl ?_
    obtain ⟨j41, ej41, h⟩ := bnd_e h
    have hj41 : ∀ (x1_25 : Int) (x2_26 : Int) (x3_27 : Int) (x4_28 : Int) (s29 : XS), j41 x1_25 x2_26 x3_27 x4_28 s29 = some res → GX l cX7_spills "VerbAtDusk$State" 5 none "spills" [] x0 D true 0 453 cN sN (0, res) s29 50 [(0, .ref (ad x0 a0)), (1, J x1_25), (2, J x2_26), (3, J x3_27), (4, J x4_28)] [] := by
      clear h
      intro x1_25 x2_26 x3_27 x4_28 s29 h
      subst ej41
      refine gx_iload_n 50 3 dX7_spills_50 rfl ?_
      refine gx_iload_n 51 1 dX7_spills_51 rfl ?_
      refine gx_iload 52 4 dX7_spills_52 rfl ?_
      obtain ⟨z30, ez30, h⟩ := opt_e h
      refine gx_callSN (As := [J x1_25, J x4_28]) (rest := [J x3_27]) (st' := [J z30.1, J x3_27]) 54 2 (mx0_has ez30 l) q1011 q147 q1579 q1010 (by decide +kernel) (by decide) rfl rfl (Nat.le_of_ble_eq_true rfl) dX7_spills_54 rfl ?_
      obtain ⟨j39, ej39, h⟩ := bnd_e h
      have hj39 : ∀ (x1_31 : Int) (x2_32 : Int) (x4_33 : Int) (w34 : Int) (w35 : Int) (s36 : XS), j39 x1_31 x2_32 x4_33 w34 w35 s36 = some res → GX l cX7_spills "VerbAtDusk$State" 5 none "spills" [] x0 D true 0 453 cN sN (0, res) s36 65 [(0, .ref (ad x0 a0)), (1, J x1_31), (2, J x2_32), (4, J x4_33)] [J w34, J w35] := by
        clear h
        intro x1_31 x2_32 x4_33 w34 w35 s36 h
        subst ej39
        refine gx_isub 65 dX7_spills_65 ?_
        obtain ⟨x3_37, ex3_37, h⟩ := bnd_e h
        refine gx_istore_n 66 [(3, J x3_37), (0, .ref (ad x0 a0)), (1, J x1_31), (2, J x2_32), (4, J x4_33)] dX7_spills_66 (by decide) ex3_37 rfl ?_
        obtain ⟨x4_38, ex4_38, h⟩ := bnd_e h
        refine gx_iinc 67 4 [(4, J x4_38), (3, J x3_37), (0, .ref (ad x0 a0)), (1, J x1_31), (2, J x2_32)] dX7_spills_67 rfl ex4_38 (by decide) rfl ?_
        refine gx_goto 70 37 dX7_spills_70 (by decide) ?_
        refine gx_sub [2, 3, 4, 1, 0] rfl ?_
        exact ih _ _ _ _ _ h
      refine gx_if_eq 57 64 dX7_spills_57 (by decide) (fun c40 => ?_) (fun c40 => ?_)
      · replace h := if_t h c40
        refine gx_iconst 64 dX7_spills_64 ?_
        refine gx_sub [0, 1, 2, 4] rfl ?_
        exact hj39 _ _ _ _ _ _ h
      · replace h := if_f h c40
        refine gx_iconst 60 dX7_spills_60 ?_
        refine gx_goto 61 65 dX7_spills_61 (by decide) ?_
        refine gx_sub [0, 1, 2, 4] rfl ?_
        exact hj39 _ _ _ _ _ _ h
    refine gx_if_eq 43 50 dX7_spills_43 (by decide) (fun c42 => ?_) (fun c42 => ?_)
    · replace h := if_t h c42
      refine gx_sub [0, 1, 2, 3, 4] rfl ?_
      exact hj41 _ _ _ _ _ h
    · replace h := if_f h c42
      refine gx_iload_n 46 3 dX7_spills_46 rfl ?_
      refine gx_if_le 47 73 dX7_spills_47 (by decide) (fun c43 => ?_) (fun c43 => ?_)
      · replace h := if_t h c43
        refine gx_sub [0, 1, 2, 4] rfl ?_
        exact hk73 _ _ _ _ h
      · replace h := if_f h c43
        refine gx_sub [0, 1, 2, 3, 4] rfl ?_
        exact hj41 _ _ _ _ _ h
theorem wx7_spills_L7 {l : Launch} {x0 : Nat} {D : XD} {cN sN : Nat} {res : Int × XS} {a0 : Int} (ga0 : isSt a0) {k95 : XS → Option (Int × XS)} (hk95 : ∀ (s7 : XS), k95 s7 = some res → GX l cX7_spills "VerbAtDusk$State" 5 none "spills" [] x0 D true 0 453 cN sN (0, res) s7 95 [(0, .ref (ad x0 a0))] []) : ∀ (n : Nat) (x1_4 : Int) (x2_5 : Int) (s6 : XS), x7_spills_L7 a0 k95 n x1_4 x2_5 s6 = some res → GX l cX7_spills "VerbAtDusk$State" 5 none "spills" [] x0 D true 0 453 cN sN (0, res) s6 7 [(0, .ref (ad x0 a0)), (1, J x1_4), (2, J x2_5)] [] := by
  intro n
  induction n with
  | zero =>
    intro x1_4 x2_5 s6 h
    cases h
  | succ n ih =>
    intro x1_4 x2_5 s6 h
    rw [x7_spills_L7] at h
    refine gx_iload_n 7 2 dX7_spills_7 rfl ?_
    refine gx_aload_n 8 0 dX7_spills_8 rfl ?_
    refine gx_get (t := 8) (k := 9) (v := .ref (ad x0 0)) 9 cw8 (by decide) (tgs (st_0 ga0) (by decide)) q493 same_f (rf_ne (nes (show stc 0 = (1, 0) by decide) (by decide))) dX7_spills_9 ?_
    obtain ⟨z8, ez8, h⟩ := opt_e h
    refine gx_callVN (As := []) (rest := [J x2_5]) (st' := [J z8.1, J x2_5]) 12 0 cw1 (tgs (show stc 0 = (1, 0) by decide) (by decide)) (mx0_sayings ez8 l) q1291 q147 q1288 q1290 qs33 (by decide +kernel) (by decide) rfl rfl (Nat.le_of_ble_eq_true rfl) dX7_spills_12 rfl ?_
    refine gx_icmp_ge 15 95 dX7_spills_15 (by decide) (fun c9 => ?_) (fun c9 => ?_)
    · replace h := if_t h c9
      refine gx_sub [0] rfl ?_
      exact hk95 _ h
    · replace h := if_f h c9
      refine gx_iload_n 18 1 dX7_spills_18 rfl ?_
      refine gx_if_eq 19 95 dX7_spills_19 (by decide) (fun c10 => ?_) (fun c10 => ?_)
      · replace h := if_t h c10
        refine gx_sub [0] rfl ?_
        exact hk95 _ h
      · replace h := if_f h c10
        refine gx_aload_n 22 0 dX7_spills_22 rfl ?_
        refine gx_get (t := 8) (k := 9) (v := .ref (ad x0 0)) 23 cw8 (by decide) (tgs (st_0 ga0) (by decide)) q493 same_f (rf_ne (nes (show stc 0 = (1, 0) by decide) (by decide))) dX7_spills_23 ?_
        refine gx_iload_n 26 1 dX7_spills_26 rfl ?_
        obtain ⟨z11, ez11, h⟩ := opt_e h
        refine gx_callS (As := [J x1_4]) (rest := [.ref (ad x0 0)]) (st' := [J z11.1, .ref (ad x0 0)]) 27 1 (mj16_bitCount ez11 l) (lw_S q1664 q1311 q187 q1312) (by decide +kernel) (by decide) rfl rfl (Nat.le_of_ble_eq_true rfl) dX7_spills_27 rfl ?_
        obtain ⟨z12, ez12, h⟩ := opt_e h
        refine gx_callVN (As := [J z11.1]) (rest := []) (st' := [J z12.1]) 30 1 cw1 (tgs (show stc 0 = (1, 0) by decide) (by decide)) (mx0_draw ez12 l) q1654 q147 q1665 q1653 qs51 (by decide +kernel) (by decide) rfl rfl (Nat.le_of_ble_eq_true rfl) dX7_spills_30 rfl ?_
        obtain ⟨x3_13, ex3_13, h⟩ := bnd_e h
        refine gx_istore_n 33 [(3, J x3_13), (0, .ref (ad x0 a0)), (1, J x1_4), (2, J x2_5)] dX7_spills_33 (by decide) ex3_13 rfl ?_
        refine gx_iconst 34 dX7_spills_34 ?_
        obtain ⟨x4_14, ex4_14, h⟩ := bnd_e h
        refine gx_istore 35 [(4, J x4_14), (3, J x3_13), (0, .ref (ad x0 a0)), (1, J x1_4), (2, J x2_5)] dX7_spills_35 (by decide) ex4_14 rfl ?_
        refine gx_sub [2, 3, 4, 1, 0] rfl ?_
        refine wx7_spills_L37 ga0 (fun x1_44 x2_45 x4_46 s47 h => ?_) FU _ _ _ _ _ h
        · refine gx_iload_n 73 1 dX7_spills_73 rfl ?_
          refine gx_iconst 74 dX7_spills_74 ?_
          refine gx_iload 75 3 dX7_spills_75 rfl ?_
          refine gx_ishl 77 dX7_spills_77 ?_
          refine gx_iconst 78 dX7_spills_78 ?_
          refine gx_ixor 79 dX7_spills_79 ?_
          refine gx_iand 80 dX7_spills_80 ?_
          obtain ⟨x1_48, ex1_48, h⟩ := bnd_e h
          refine gx_istore_n 81 [(1, J x1_48), (0, .ref (ad x0 a0)), (2, J x2_45), (4, J x4_46)] dX7_spills_81 (by decide) ex1_48 rfl ?_
          refine gx_aload_n 82 1 dX7_spills_82 rfl ?_
          refine gx_iload_n 83 2 dX7_spills_83 rfl ?_
          refine gx_iload 84 3 dX7_spills_84 rfl ?_
          obtain ⟨z49, ez49, h⟩ := opt_e h
          refine gx_callV (As := [J x2_45, J x4_46]) (rest := []) (st' := []) 86 2 cw8 (tgs (st_0 ga0) (by decide)) (mx7_gives ez49 l) (lw_V q1580 q1582 qs46 q160 q1583) (by decide +kernel) (by decide) rfl rfl (Nat.le_of_ble_eq_true rfl) dX7_spills_86 rfl ?_
          obtain ⟨x2_50, ex2_50, h⟩ := bnd_e h
          refine gx_iinc 89 2 [(2, J x2_50), (1, J x1_48), (0, .ref (ad x0 a0)), (4, J x4_46)] dX7_spills_89 rfl ex2_50 (by decide) rfl ?_
          refine gx_goto 92 7 dX7_spills_92 (by decide) ?_
          refine gx_sub [2, 1, 0] rfl ?_
          exact ih _ _ _ h
theorem mx7_spills {x0 : Nat} {D : XD} {a0 : Int} {s0 : XS} {res : Int × XS} (h : x7_spills a0 s0 = some res) (l : Launch) : XMet0 l yX7_spills cX7_spills 5 none 453 true x0 D [.ref (ad x0 a0)] s0 0 res := by
  refine XMet0.ofn [(0, .ref (ad x0 a0))] "VerbAtDusk$State" "spills" rfl rfl (plainFor_of_name (by decide)) (Nat.le_of_ble_eq_true rfl) rfl ?_
  unfold x7_spills at h
  generalize nC s0 = cN
  generalize nS s0 = sN
  obtain ⟨ga0, h⟩ := gd_e h
  refine gx_aload_n 0 0 dX7_spills_0 rfl ?_
  obtain ⟨z1, ez1, h⟩ := opt_e h
  refine gx_callV (As := []) (rest := []) (st' := [J z1.1]) 1 0 cw8 (tgs (st_0 ga0) (by decide)) (mx7_sack ez1 l) (lw_V q1663 q1457 q1458 q160 q1459) (by decide +kernel) (by decide) rfl rfl (Nat.le_of_ble_eq_true rfl) dX7_spills_1 rfl ?_
  obtain ⟨x1_2, ex1_2, h⟩ := bnd_e h
  refine gx_istore_n 4 [(1, J x1_2), (0, .ref (ad x0 a0))] dX7_spills_4 (by decide) ex1_2 rfl ?_
  refine gx_iconst 5 dX7_spills_5 ?_
  obtain ⟨x2_3, ex2_3, h⟩ := bnd_e h
  refine gx_istore_n 6 [(2, J x2_3), (1, J x1_2), (0, .ref (ad x0 a0))] dX7_spills_6 (by decide) ex2_3 rfl ?_
  refine gx_sub [2, 1, 0] rfl ?_
  refine wx7_spills_L7 ga0 (fun s51 h => ?_) FU _ _ _ h
  · refine gx_aload_n 95 0 dX7_spills_95 rfl ?_
    refine gx_dup 96 dX7_spills_96 rfl ?_
    refine gx_get (t := 8) (k := 0) (v := J (s51 a0 0)) 97 cw8 (by decide) (tgs (st_0 ga0) (by decide)) q473 same_f rfl dX7_spills_97 ?_
    refine gx_iconst 100 dX7_spills_100 ?_
    refine gx_iadd 101 dX7_spills_101 ?_
    obtain ⟨s52, es52, h⟩ := bnd_e h
    refine gx_put (t := 8) (k := 0) (x := ((s51 a0 0) + 1)) (ty := .int) 102 cw8 (by decide) (tgs (st_0 ga0) (by decide)) (st0 (st_0 ga0) (by decide)) (stm (st_0 ga0) (by decide)) q473 same_f rfl (by decide +kernel) rfl rfl (congrArg J (ux_s _ _ _ _)) es52 dX7_spills_102 ?_
    exact gx_vret 105 dX7_spills_105 (rt h)
/-! VerbAtDusk.gets -/
noncomputable def x0_gets (a1 : Int) (s0 : XS) : Option (Int × XS) :=
  Option.bind (x6_by 36 s0) fun z2 =>
  gd (z2.1 = 19) <|
  if i32 (z2.2 19 5) = 0 then
    some ((-1), z2.2)
  else
    gd (ok 6 a1) <|
    some ((z2.2 34 (i32 a1)), z2.2)
theorem mx0_gets {x0 : Nat} {D : XD} {a1 : Int} {s0 : XS} {res : Int × XS} (h : x0_gets a1 s0 = some res) (l : Launch) : XMet0 l yX0_gets cX0_gets 2 (some .int) 711 true x0 D [.ref (ad x0 0), J a1] s0 1 res := by
  refine XMet0.ofn [(0, .ref (ad x0 0)), (1, J a1)] "VerbAtDusk" "gets" rfl rfl (plainFor_of_name (by decide)) (Nat.le_of_ble_eq_true rfl) rfl ?_
  unfold x0_gets at h
  generalize nC s0 = cN
  generalize nS s0 = sN
  refine gx_aload_n 0 0 dX0_gets_0 rfl ?_
  refine gx_get (t := 1) (k := 10) (v := .ref (ad x0 19)) 1 cw1 (by decide) (tgs (show stc 0 = (1, 0) by decide) (by decide)) q532 same_f (rf_ne (nes (show stc 19 = (7, 0) by decide) (by decide))) dX0_gets_1 ?_
  refine gx_aload_n 4 0 dX0_gets_4 rfl ?_
  refine gx_get (t := 1) (k := 11) (v := .ref (ad x0 36)) 5 cw1 (by decide) (tgs (show stc 0 = (1, 0) by decide) (by decide)) q534 same_f (rf_ne (nes (show stc 36 = (8, 6) by decide) (by decide))) dX0_gets_5 ?_
  obtain ⟨z2, ez2, h⟩ := opt_e h
  refine gx_callV (As := [.ref (ad x0 36)]) (rest := []) (st' := [.ref (ad x0 z2.1)]) 8 1 cw7 (tgs (show stc 19 = (7, 0) by decide) (by decide)) (mx6_by ez2 l) (lw_V q1354 q1355 q1356 q159 q1357) (by decide +kernel) (by decide) rfl rfl (Nat.le_of_ble_eq_true rfl) dX0_gets_8 rfl ?_
  obtain ⟨g3, h⟩ := gd_e h
  rw [g3]
  refine gx_getN (t := 7) (k := 5) (v := J (z2.2 19 5)) 11 cw7 (by decide) (tgs (show stc 19 = (7, 0) by decide) (by decide)) q439 same_f rfl dX0_gets_11 ?_
  refine gx_if_eq 14 29 dX0_gets_14 (by decide) (fun c4 => ?_) (fun c4 => ?_)
  · replace h := if_t h c4
    refine gx_iconst 29 dX0_gets_29 ?_
    exact gx_iret 30 dX0_gets_30 (rt h)
  · replace h := if_f h c4
    refine gx_aload_n 17 0 dX0_gets_17 rfl ?_
    refine gx_get (t := 1) (k := 10) (v := .ref (ad x0 19)) 18 cw1 (by decide) (tgs (show stc 0 = (1, 0) by decide) (by decide)) q532 same_f (rf_ne (nes (show stc 19 = (7, 0) by decide) (by decide))) dX0_gets_18 ?_
    refine gx_getN (t := 7) (k := 2) (v := .ref (ad x0 34)) 21 cw7 (by decide) (tgs (show stc 19 = (7, 0) by decide) (by decide)) q433 same_f (rf_ne (nes (show stc 34 = (101, 6) by decide) (by decide))) dX0_gets_21 ?_
    refine gx_iload_n 24 1 dX0_gets_24 rfl ?_
    obtain ⟨g5, h⟩ := gd_e h
    refine gx_iald 25 (tgs (show stc 34 = (101, 6) by decide) (by decide)) (oks (show stc 34 = (101, 6) by decide) (by decide) g5) dX0_gets_25 ?_
    refine gx_goto 26 30 dX0_gets_26 (by decide) ?_
    exact gx_iret 30 dX0_gets_30 (rt h)
/-! VerbAtDusk.check -/
noncomputable def x0_check_L6 (a1 : Int) (k33 : Int → XS → Option (Int × XS)) : Nat → Int → Int → Int → XS → Option (Int × XS)
  | 0, _, _, _, _ => none
  | n + 1, x1_5, x2_6, x3_7, s8 =>
    if i32 x1_5 ≤ i32 x3_7 then
      k33 x2_6 s8
    else
      gd (tg true s8 a1 = 102) <|
      gd (ok (ln true s8 a1) x3_7) <|
      bnd (irem ((3 * x2_6) + (iand (s8 a1 (i32 x3_7)) 255)) 251) fun x2_14 =>
      bnd (x3_7 + 1) fun x3_15 =>
      x0_check_L6 a1 k33 n x1_5 x2_14 x3_15 s8
noncomputable def x0_check (a1 : Int) (a2 : Int) (s0 : XS) : Option (Int × XS) :=
  bnd 163 fun x2_3 =>
  bnd 0 fun x3_4 =>
  x0_check_L6 a1
    (fun (x2_16 : Int) (s17 : XS) =>
      some (x2_16, s17))
    FU a2 x2_3 x3_4 s0
theorem wx0_check_L6 {l : Launch} {x0 : Nat} {D : XD} {cN sN : Nat} {res : Int × XS} {a1 : Int} {k33 : Int → XS → Option (Int × XS)} (hk33 : ∀ (x2_9 : Int) (s10 : XS), k33 x2_9 s10 = some res → GX l cX0_check "VerbAtDusk" 4 (some .int) "check" [] x0 D true 1 1 cN sN (0, res) s10 33 [(2, J x2_9)] []) : ∀ (n : Nat) (x1_5 : Int) (x2_6 : Int) (x3_7 : Int) (s8 : XS), x0_check_L6 a1 k33 n x1_5 x2_6 x3_7 s8 = some res → GX l cX0_check "VerbAtDusk" 4 (some .int) "check" [] x0 D true 1 1 cN sN (0, res) s8 6 [(0, .ref (ad x0 a1)), (1, J x1_5), (2, J x2_6), (3, J x3_7)] [] := by
  intro n
  induction n with
  | zero =>
    intro x1_5 x2_6 x3_7 s8 h
    cases h
  | succ n ih =>
    intro x1_5 x2_6 x3_7 s8 h
    rw [x0_check_L6] at h
    refine gx_iload_n 6 3 dX0_check_6 rfl ?_
    refine gx_iload_n 7 1 dX0_check_7 rfl ?_
    refine gx_icmp_ge 8 33 dX0_check_8 (by decide) (fun c11 => ?_) (fun c11 => ?_)
    · replace h := if_t h c11
      refine gx_sub [2] rfl ?_
      exact hk33 _ _ h
    · replace h := if_f h c11
      refine gx_iconst 11 dX0_check_11 ?_
      refine gx_iload_n 12 2 dX0_check_12 rfl ?_
      refine gx_imul 13 dX0_check_13 ?_
      refine gx_aload_n 14 0 dX0_check_14 rfl ?_
      refine gx_iload_n 15 3 dX0_check_15 rfl ?_
      obtain ⟨g12, h⟩ := gd_e h
      obtain ⟨g13, h⟩ := gd_e h
      refine gx_bald 16 g12 g13 dX0_check_16 ?_
      refine gx_sipush 17 dX0_check_17 (by decide) ?_
      refine gx_iand 20 dX0_check_20 ?_
      refine gx_iadd 21 dX0_check_21 ?_
      refine gx_sipush 22 dX0_check_22 (by decide) ?_
      refine gx_irem 25 dX0_check_25 (by decide) ?_
      obtain ⟨x2_14, ex2_14, h⟩ := bnd_e h
      refine gx_istore_n 26 [(2, J x2_14), (0, .ref (ad x0 a1)), (1, J x1_5), (3, J x3_7)] dX0_check_26 (by decide) ex2_14 rfl ?_
      obtain ⟨x3_15, ex3_15, h⟩ := bnd_e h
      refine gx_iinc 27 3 [(3, J x3_15), (2, J x2_14), (0, .ref (ad x0 a1)), (1, J x1_5)] dX0_check_27 rfl ex3_15 (by decide) rfl ?_
      refine gx_goto 30 6 dX0_check_30 (by decide) ?_
      refine gx_sub [2, 3, 1, 0] rfl ?_
      exact ih _ _ _ _ h
theorem mx0_check {x0 : Nat} {D : XD} {a1 : Int} {a2 : Int} {s0 : XS} {res : Int × XS} (h : x0_check a1 a2 s0 = some res) (l : Launch) : XMet0 l yX0_check cX0_check 4 (some .int) 1 true x0 D [.ref (ad x0 a1), J a2] s0 1 res := by
  refine XMet0.ofn [(0, .ref (ad x0 a1)), (1, J a2)] "VerbAtDusk" "check" rfl rfl (plainFor_of_name (by decide)) (Nat.le_of_ble_eq_true rfl) rfl ?_
  unfold x0_check at h
  generalize nC s0 = cN
  generalize nS s0 = sN
  refine gx_sipush 0 dX0_check_0 (by decide) ?_
  obtain ⟨x2_3, ex2_3, h⟩ := bnd_e h
  refine gx_istore_n 3 [(2, J x2_3), (0, .ref (ad x0 a1)), (1, J a2)] dX0_check_3 (by decide) ex2_3 rfl ?_
  refine gx_iconst 4 dX0_check_4 ?_
  obtain ⟨x3_4, ex3_4, h⟩ := bnd_e h
  refine gx_istore_n 5 [(3, J x3_4), (2, J x2_3), (0, .ref (ad x0 a1)), (1, J a2)] dX0_check_5 (by decide) ex3_4 rfl ?_
  refine gx_sub [2, 3, 1, 0] rfl ?_
  refine wx0_check_L6 (fun x2_16 s17 h => ?_) FU _ _ _ _ h
  · refine gx_iload_n 33 0 dX0_check_33 rfl ?_
    exact gx_iret 34 dX0_check_34 (rt h)
/-! VerbAtDusk.image -/
noncomputable def x0_image_L32 (k69 : XS → Option (Int × XS)) : Nat → Int → XS → Option (Int × XS)
  | 0, _, _ => none
  | n + 1, x1_5, s6 =>
    Option.bind (x0_verbs s6) fun z8 =>
    if i32 z8.1 ≤ i32 x1_5 then
      k69 z8.2
    else
      Option.bind (x0_has (z8.2 36 1) x1_5 z8.2) fun z10 =>
      bnd (fun (x1_11 : Int) (w12 : Int) (s13 : XS) =>
          Option.bind (x0_writes w12 s13) fun z14 =>
          bnd (x1_11 + 1) fun x1_15 =>
          x0_image_L32 k69 n x1_15 z14.2) fun j16 =>
      if i32 z10.1 = 0 then
        j16 x1_5 0 z10.2
      else
        j16 x1_5 1 z10.2
noncomputable def x0_image_L120 (k149 : Int → XS → Option (Int × XS)) : Nat → Int → Int → XS → Option (Int × XS)
  | 0, _, _, _ => none
  | n + 1, x1_32, x2_33, s34 =>
    Option.bind (x0_verbs s34) fun z37 =>
    if i32 z37.1 ≤ i32 x2_33 then
      k149 x1_32 z37.2
    else
      gd (ok 6 x1_32) <|
      gd (ok 7 x2_33) <|
      Option.bind (x0_writes (z37.2 (41 + 1 + i32 x1_32) (i32 x2_33)) z37.2) fun z41 =>
      bnd (x2_33 + 1) fun x2_42 =>
      x0_image_L120 k149 n x1_32 x2_42 z41.2
noncomputable def x0_image_L71 (k155 : XS → Option (Int × XS)) : Nat → Int → XS → Option (Int × XS)
  | 0, _, _ => none
  | n + 1, x1_20, s21 =>
    Option.bind (x0_sayings s21) fun z23 =>
    if i32 z23.1 ≤ i32 x1_20 then
      k155 z23.2
    else
      gd (ok 6 x1_20) <|
      Option.bind (x0_writes (z23.2 37 (i32 x1_20)) z23.2) fun z26 =>
      gd (ok 6 x1_20) <|
      Option.bind (x0_writes (z26.2 38 (i32 x1_20)) z26.2) fun z28 =>
      gd (ok 6 x1_20) <|
      Option.bind (x0_writes (z28.2 39 (i32 x1_20)) z28.2) fun z30 =>
      bnd 0 fun x2_31 =>
      x0_image_L120
        (fun (x1_43 : Int) (s44 : XS) =>
          bnd (x1_43 + 1) fun x1_45 =>
          x0_image_L71 k155 n x1_45 s44)
        FU x1_20 x2_31 z30.2
noncomputable def x0_image (s0 : XS) : Option (Int × XS) :=
  bnd (ux s0 0 23 0) fun s1 =>
  Option.bind (x0_writes (ishr (s1 36 0) 8) s1) fun z2 =>
  Option.bind (x0_writes (z2.2 36 0) z2.2) fun z3 =>
  bnd 0 fun x1_4 =>
  x0_image_L32
    (fun (s18 : XS) =>
      bnd 0 fun x1_19 =>
      x0_image_L71
        (fun (s46 : XS) =>
          Option.bind (x0_check 1437 (s46 0 23) s46) fun z47 =>
          Option.bind (x0_writes z47.1 z47.2) fun z48 =>
          some ((z48.2 0 23), z48.2))
        FU x1_19 s18)
    FU x1_4 z3.2
theorem wx0_image_L32 {l : Launch} {x0 : Nat} {D : XD} {cN sN : Nat} {res : Int × XS} {k69 : XS → Option (Int × XS)} (hk69 : ∀ (s7 : XS), k69 s7 = some res → GX l cX0_image "VerbAtDusk" 3 (some .int) "image" [] x0 D true 1 3 cN sN (0, res) s7 69 [(0, .ref (ad x0 0))] []) : ∀ (n : Nat) (x1_5 : Int) (s6 : XS), x0_image_L32 k69 n x1_5 s6 = some res → GX l cX0_image "VerbAtDusk" 3 (some .int) "image" [] x0 D true 1 3 cN sN (0, res) s6 32 [(0, .ref (ad x0 0)), (1, J x1_5)] [] := by
  intro n
  induction n with
  | zero =>
    intro x1_5 s6 h
    cases h
  | succ n ih =>
    intro x1_5 s6 h
    rw [x0_image_L32] at h
    refine gx_iload_n 32 1 dX0_image_32 rfl ?_
    refine gx_aload_n 33 0 dX0_image_33 rfl ?_
    obtain ⟨z8, ez8, h⟩ := opt_e h
    refine gx_callV (As := []) (rest := [J x1_5]) (st' := [J z8.1, J x1_5]) 34 0 cw1 (tgs (show stc 0 = (1, 0) by decide) (by decide)) (mx0_verbs ez8 l) (lw_V q1306 q1308 qs34 q147 q1309) (by decide +kernel) (by decide) rfl rfl (Nat.le_of_ble_eq_true rfl) dX0_image_34 rfl ?_
    refine gx_icmp_ge 37 69 dX0_image_37 (by decide) (fun c9 => ?_) (fun c9 => ?_)
    · replace h := if_t h c9
      refine gx_sub [0] rfl ?_
      exact hk69 _ h
    · replace h := if_f h c9
      refine gx_aload_n 40 0 dX0_image_40 rfl ?_
      refine gx_aload_n 41 0 dX0_image_41 rfl ?_
      refine gx_get (t := 1) (k := 11) (v := .ref (ad x0 36)) 42 cw1 (by decide) (tgs (show stc 0 = (1, 0) by decide) (by decide)) q534 same_f (rf_ne (nes (show stc 36 = (8, 6) by decide) (by decide))) dX0_image_42 ?_
      refine gx_getN (t := 8) (k := 1) (v := J (z8.2 36 1)) 45 cw8 (by decide) (tgs (show stc 36 = (8, 6) by decide) (by decide)) q476 same_f rfl dX0_image_45 ?_
      refine gx_iload_n 48 1 dX0_image_48 rfl ?_
      obtain ⟨z10, ez10, h⟩ := opt_e h
      refine gx_callS (As := [J (z8.2 36 1), J x1_5]) (rest := [.ref (ad x0 0)]) (st' := [J z10.1, .ref (ad x0 0)]) 49 2 (mx0_has ez10 l) (lw_S q1488 q1010 q147 q1011) (by decide +kernel) (by decide) rfl rfl (Nat.le_of_ble_eq_true rfl) dX0_image_49 rfl ?_
      obtain ⟨j16, ej16, h⟩ := bnd_e h
      have hj16 : ∀ (x1_11 : Int) (w12 : Int) (s13 : XS), j16 x1_11 w12 s13 = some res → GX l cX0_image "VerbAtDusk" 3 (some .int) "image" [] x0 D true 1 3 cN sN (0, res) s13 60 [(0, .ref (ad x0 0)), (1, J x1_11)] [J w12, .ref (ad x0 0)] := by
        clear h
        intro x1_11 w12 s13 h
        subst ej16
        obtain ⟨z14, ez14, h⟩ := opt_e h
        refine gx_callV (As := [J w12]) (rest := []) (st' := []) 60 1 cw1 (tgs (show stc 0 = (1, 0) by decide) (by decide)) (mx0_writes ez14 l) (lw_V q1719 q1721 qs52 q147 q1722) (by decide +kernel) (by decide) rfl rfl (Nat.le_of_ble_eq_true rfl) dX0_image_60 rfl ?_
        obtain ⟨x1_15, ex1_15, h⟩ := bnd_e h
        refine gx_iinc 63 1 [(1, J x1_15), (0, .ref (ad x0 0))] dX0_image_63 rfl ex1_15 (by decide) rfl ?_
        refine gx_goto 66 32 dX0_image_66 (by decide) ?_
        refine gx_sub [1, 0] rfl ?_
        exact ih _ _ h
      refine gx_if_eq 52 59 dX0_image_52 (by decide) (fun c17 => ?_) (fun c17 => ?_)
      · replace h := if_t h c17
        refine gx_iconst 59 dX0_image_59 ?_
        refine gx_sub [0, 1] rfl ?_
        exact hj16 _ _ _ h
      · replace h := if_f h c17
        refine gx_iconst 55 dX0_image_55 ?_
        refine gx_goto 56 60 dX0_image_56 (by decide) ?_
        refine gx_sub [0, 1] rfl ?_
        exact hj16 _ _ _ h
theorem wx0_image_L120 {l : Launch} {x0 : Nat} {D : XD} {cN sN : Nat} {res : Int × XS} {k149 : Int → XS → Option (Int × XS)} (hk149 : ∀ (x1_35 : Int) (s36 : XS), k149 x1_35 s36 = some res → GX l cX0_image "VerbAtDusk" 3 (some .int) "image" [] x0 D true 1 3 cN sN (0, res) s36 149 [(0, .ref (ad x0 0)), (1, J x1_35)] []) : ∀ (n : Nat) (x1_32 : Int) (x2_33 : Int) (s34 : XS), x0_image_L120 k149 n x1_32 x2_33 s34 = some res → GX l cX0_image "VerbAtDusk" 3 (some .int) "image" [] x0 D true 1 3 cN sN (0, res) s34 120 [(0, .ref (ad x0 0)), (1, J x1_32), (2, J x2_33)] [] := by
  intro n
  induction n with
  | zero =>
    intro x1_32 x2_33 s34 h
    cases h
  | succ n ih =>
    intro x1_32 x2_33 s34 h
    rw [x0_image_L120] at h
    refine gx_iload_n 120 2 dX0_image_120 rfl ?_
    refine gx_aload_n 121 0 dX0_image_121 rfl ?_
    obtain ⟨z37, ez37, h⟩ := opt_e h
    refine gx_callV (As := []) (rest := [J x2_33]) (st' := [J z37.1, J x2_33]) 122 0 cw1 (tgs (show stc 0 = (1, 0) by decide) (by decide)) (mx0_verbs ez37 l) (lw_V q1306 q1308 qs34 q147 q1309) (by decide +kernel) (by decide) rfl rfl (Nat.le_of_ble_eq_true rfl) dX0_image_122 rfl ?_
    refine gx_icmp_ge 125 149 dX0_image_125 (by decide) (fun c38 => ?_) (fun c38 => ?_)
    · replace h := if_t h c38
      refine gx_sub [0, 1] rfl ?_
      exact hk149 _ _ h
    · replace h := if_f h c38
      refine gx_aload_n 128 0 dX0_image_128 rfl ?_
      refine gx_aload_n 129 0 dX0_image_129 rfl ?_
      refine gx_get (t := 1) (k := 11) (v := .ref (ad x0 36)) 130 cw1 (by decide) (tgs (show stc 0 = (1, 0) by decide) (by decide)) q534 same_f (rf_ne (nes (show stc 36 = (8, 6) by decide) (by decide))) dX0_image_130 ?_
      refine gx_getN (t := 8) (k := 7) (v := .ref (ad x0 41)) 133 cw8 (by decide) (tgs (show stc 36 = (8, 6) by decide) (by decide)) q490 same_f (rf_ne (nes (show stc 41 = (121, 6) by decide) (by decide))) dX0_image_133 ?_
      refine gx_iload_n 136 1 dX0_image_136 rfl ?_
      obtain ⟨g39, h⟩ := gd_e h
      refine gx_aald (t := 121) (ty := (.array .int)) (r := (41 + 1 + i32 x1_32)) 137 (by decide) rfl (by decide) (tgs (show stc 41 = (121, 6) by decide) (by decide)) (oks (show stc 41 = (121, 6) by decide) (by decide) g39) rfl (nes (st_g (ce := 36) (by decide) g39) (by decide)) dX0_image_137 ?_
      refine gx_iload_n 138 2 dX0_image_138 rfl ?_
      obtain ⟨g40, h⟩ := gd_e h
      refine gx_iald 139 (tgs (st_g (ce := 36) (by decide) g39) (by decide)) (oks (st_g (ce := 36) (by decide) g39) (by decide) g40) dX0_image_139 ?_
      obtain ⟨z41, ez41, h⟩ := opt_e h
      refine gx_callV (As := [J (z37.2 (41 + 1 + i32 x1_32) (i32 x2_33))]) (rest := []) (st' := []) 140 1 cw1 (tgs (show stc 0 = (1, 0) by decide) (by decide)) (mx0_writes ez41 l) (lw_V q1719 q1721 qs52 q147 q1722) (by decide +kernel) (by decide) rfl rfl (Nat.le_of_ble_eq_true rfl) dX0_image_140 rfl ?_
      obtain ⟨x2_42, ex2_42, h⟩ := bnd_e h
      refine gx_iinc 143 2 [(2, J x2_42), (0, .ref (ad x0 0)), (1, J x1_32)] dX0_image_143 rfl ex2_42 (by decide) rfl ?_
      refine gx_goto 146 120 dX0_image_146 (by decide) ?_
      refine gx_sub [1, 2, 0] rfl ?_
      exact ih _ _ _ h
theorem wx0_image_L71 {l : Launch} {x0 : Nat} {D : XD} {cN sN : Nat} {res : Int × XS} {k155 : XS → Option (Int × XS)} (hk155 : ∀ (s22 : XS), k155 s22 = some res → GX l cX0_image "VerbAtDusk" 3 (some .int) "image" [] x0 D true 1 3 cN sN (0, res) s22 155 [(0, .ref (ad x0 0))] []) : ∀ (n : Nat) (x1_20 : Int) (s21 : XS), x0_image_L71 k155 n x1_20 s21 = some res → GX l cX0_image "VerbAtDusk" 3 (some .int) "image" [] x0 D true 1 3 cN sN (0, res) s21 71 [(0, .ref (ad x0 0)), (1, J x1_20)] [] := by
  intro n
  induction n with
  | zero =>
    intro x1_20 s21 h
    cases h
  | succ n ih =>
    intro x1_20 s21 h
    rw [x0_image_L71] at h
    refine gx_iload_n 71 1 dX0_image_71 rfl ?_
    refine gx_aload_n 72 0 dX0_image_72 rfl ?_
    obtain ⟨z23, ez23, h⟩ := opt_e h
    refine gx_callV (As := []) (rest := [J x1_20]) (st' := [J z23.1, J x1_20]) 73 0 cw1 (tgs (show stc 0 = (1, 0) by decide) (by decide)) (mx0_sayings ez23 l) (lw_V q1305 q1290 qs33 q147 q1291) (by decide +kernel) (by decide) rfl rfl (Nat.le_of_ble_eq_true rfl) dX0_image_73 rfl ?_
    refine gx_icmp_ge 76 155 dX0_image_76 (by decide) (fun c24 => ?_) (fun c24 => ?_)
    · replace h := if_t h c24
      refine gx_sub [0] rfl ?_
      exact hk155 _ h
    · replace h := if_f h c24
      refine gx_aload_n 79 0 dX0_image_79 rfl ?_
      refine gx_aload_n 80 0 dX0_image_80 rfl ?_
      refine gx_get (t := 1) (k := 11) (v := .ref (ad x0 36)) 81 cw1 (by decide) (tgs (show stc 0 = (1, 0) by decide) (by decide)) q534 same_f (rf_ne (nes (show stc 36 = (8, 6) by decide) (by decide))) dX0_image_81 ?_
      refine gx_getN (t := 8) (k := 3) (v := .ref (ad x0 37)) 84 cw8 (by decide) (tgs (show stc 36 = (8, 6) by decide) (by decide)) q481 same_f (rf_ne (nes (show stc 37 = (101, 6) by decide) (by decide))) dX0_image_84 ?_
      refine gx_iload_n 87 1 dX0_image_87 rfl ?_
      obtain ⟨g25, h⟩ := gd_e h
      refine gx_iald 88 (tgs (show stc 37 = (101, 6) by decide) (by decide)) (oks (show stc 37 = (101, 6) by decide) (by decide) g25) dX0_image_88 ?_
      obtain ⟨z26, ez26, h⟩ := opt_e h
      refine gx_callV (As := [J (z23.2 37 (i32 x1_20))]) (rest := []) (st' := []) 89 1 cw1 (tgs (show stc 0 = (1, 0) by decide) (by decide)) (mx0_writes ez26 l) (lw_V q1719 q1721 qs52 q147 q1722) (by decide +kernel) (by decide) rfl rfl (Nat.le_of_ble_eq_true rfl) dX0_image_89 rfl ?_
      refine gx_aload_n 92 0 dX0_image_92 rfl ?_
      refine gx_aload_n 93 0 dX0_image_93 rfl ?_
      refine gx_get (t := 1) (k := 11) (v := .ref (ad x0 36)) 94 cw1 (by decide) (tgs (show stc 0 = (1, 0) by decide) (by decide)) q534 same_f (rf_ne (nes (show stc 36 = (8, 6) by decide) (by decide))) dX0_image_94 ?_
      refine gx_getN (t := 8) (k := 4) (v := .ref (ad x0 38)) 97 cw8 (by decide) (tgs (show stc 36 = (8, 6) by decide) (by decide)) q484 same_f (rf_ne (nes (show stc 38 = (101, 6) by decide) (by decide))) dX0_image_97 ?_
      refine gx_iload_n 100 1 dX0_image_100 rfl ?_
      obtain ⟨g27, h⟩ := gd_e h
      refine gx_iald 101 (tgs (show stc 38 = (101, 6) by decide) (by decide)) (oks (show stc 38 = (101, 6) by decide) (by decide) g27) dX0_image_101 ?_
      obtain ⟨z28, ez28, h⟩ := opt_e h
      refine gx_callV (As := [J (z26.2 38 (i32 x1_20))]) (rest := []) (st' := []) 102 1 cw1 (tgs (show stc 0 = (1, 0) by decide) (by decide)) (mx0_writes ez28 l) (lw_V q1719 q1721 qs52 q147 q1722) (by decide +kernel) (by decide) rfl rfl (Nat.le_of_ble_eq_true rfl) dX0_image_102 rfl ?_
      refine gx_aload_n 105 0 dX0_image_105 rfl ?_
      refine gx_aload_n 106 0 dX0_image_106 rfl ?_
      refine gx_get (t := 1) (k := 11) (v := .ref (ad x0 36)) 107 cw1 (by decide) (tgs (show stc 0 = (1, 0) by decide) (by decide)) q534 same_f (rf_ne (nes (show stc 36 = (8, 6) by decide) (by decide))) dX0_image_107 ?_
      refine gx_getN (t := 8) (k := 5) (v := .ref (ad x0 39)) 110 cw8 (by decide) (tgs (show stc 36 = (8, 6) by decide) (by decide)) q486 same_f (rf_ne (nes (show stc 39 = (101, 6) by decide) (by decide))) dX0_image_110 ?_
      refine gx_iload_n 113 1 dX0_image_113 rfl ?_
      obtain ⟨g29, h⟩ := gd_e h
      refine gx_iald 114 (tgs (show stc 39 = (101, 6) by decide) (by decide)) (oks (show stc 39 = (101, 6) by decide) (by decide) g29) dX0_image_114 ?_
      obtain ⟨z30, ez30, h⟩ := opt_e h
      refine gx_callV (As := [J (z28.2 39 (i32 x1_20))]) (rest := []) (st' := []) 115 1 cw1 (tgs (show stc 0 = (1, 0) by decide) (by decide)) (mx0_writes ez30 l) (lw_V q1719 q1721 qs52 q147 q1722) (by decide +kernel) (by decide) rfl rfl (Nat.le_of_ble_eq_true rfl) dX0_image_115 rfl ?_
      refine gx_iconst 118 dX0_image_118 ?_
      obtain ⟨x2_31, ex2_31, h⟩ := bnd_e h
      refine gx_istore_n 119 [(2, J x2_31), (0, .ref (ad x0 0)), (1, J x1_20)] dX0_image_119 (by decide) ex2_31 rfl ?_
      refine gx_sub [1, 2, 0] rfl ?_
      refine wx0_image_L120 (fun x1_43 s44 h => ?_) FU _ _ _ h
      · obtain ⟨x1_45, ex1_45, h⟩ := bnd_e h
        refine gx_iinc 149 1 [(1, J x1_45), (0, .ref (ad x0 0))] dX0_image_149 rfl ex1_45 (by decide) rfl ?_
        refine gx_goto 152 71 dX0_image_152 (by decide) ?_
        refine gx_sub [1, 0] rfl ?_
        exact ih _ _ h
theorem mx0_image {x0 : Nat} {D : XD} {s0 : XS} {res : Int × XS} (h : x0_image s0 = some res) (l : Launch) : XMet0 l yX0_image cX0_image 3 (some .int) 3 true x0 D [.ref (ad x0 0)] s0 1 res := by
  refine XMet0.ofn [(0, .ref (ad x0 0))] "VerbAtDusk" "image" rfl rfl (plainFor_of_name (by decide)) (Nat.le_of_ble_eq_true rfl) rfl ?_
  unfold x0_image at h
  generalize nC s0 = cN
  generalize nS s0 = sN
  refine gx_aload_n 0 0 dX0_image_0 rfl ?_
  refine gx_iconst 1 dX0_image_1 ?_
  obtain ⟨s1, es1, h⟩ := bnd_e h
  refine gx_put (t := 1) (k := 23) (x := 0) (ty := .int) 2 cw1 (by decide) (tgs (show stc 0 = (1, 0) by decide) (by decide)) (st0 (show stc 0 = (1, 0) by decide) (by decide)) (stm (show stc 0 = (1, 0) by decide) (by decide)) q546 same_f rfl (by decide +kernel) rfl rfl (congrArg J (ux_s _ _ _ _)) es1 dX0_image_2 ?_
  refine gx_aload_n 5 0 dX0_image_5 rfl ?_
  refine gx_aload_n 6 0 dX0_image_6 rfl ?_
  refine gx_get (t := 1) (k := 11) (v := .ref (ad x0 36)) 7 cw1 (by decide) (tgs (show stc 0 = (1, 0) by decide) (by decide)) q534 same_f (rf_ne (nes (show stc 36 = (8, 6) by decide) (by decide))) dX0_image_7 ?_
  refine gx_getN (t := 8) (k := 0) (v := J (s1 36 0)) 10 cw8 (by decide) (tgs (show stc 36 = (8, 6) by decide) (by decide)) q474 same_f rfl dX0_image_10 ?_
  refine gx_bipush 13 dX0_image_13 (by decide) ?_
  refine gx_ishr 15 dX0_image_15 ?_
  obtain ⟨z2, ez2, h⟩ := opt_e h
  refine gx_callV (As := [J (ishr (s1 36 0) 8)]) (rest := []) (st' := []) 16 1 cw1 (tgs (show stc 0 = (1, 0) by decide) (by decide)) (mx0_writes ez2 l) (lw_V q1719 q1721 qs52 q147 q1722) (by decide +kernel) (by decide) rfl rfl (Nat.le_of_ble_eq_true rfl) dX0_image_16 rfl ?_
  refine gx_aload_n 19 0 dX0_image_19 rfl ?_
  refine gx_aload_n 20 0 dX0_image_20 rfl ?_
  refine gx_get (t := 1) (k := 11) (v := .ref (ad x0 36)) 21 cw1 (by decide) (tgs (show stc 0 = (1, 0) by decide) (by decide)) q534 same_f (rf_ne (nes (show stc 36 = (8, 6) by decide) (by decide))) dX0_image_21 ?_
  refine gx_getN (t := 8) (k := 0) (v := J (z2.2 36 0)) 24 cw8 (by decide) (tgs (show stc 36 = (8, 6) by decide) (by decide)) q474 same_f rfl dX0_image_24 ?_
  obtain ⟨z3, ez3, h⟩ := opt_e h
  refine gx_callV (As := [J (z2.2 36 0)]) (rest := []) (st' := []) 27 1 cw1 (tgs (show stc 0 = (1, 0) by decide) (by decide)) (mx0_writes ez3 l) (lw_V q1719 q1721 qs52 q147 q1722) (by decide +kernel) (by decide) rfl rfl (Nat.le_of_ble_eq_true rfl) dX0_image_27 rfl ?_
  refine gx_iconst 30 dX0_image_30 ?_
  obtain ⟨x1_4, ex1_4, h⟩ := bnd_e h
  refine gx_istore_n 31 [(1, J x1_4), (0, .ref (ad x0 0))] dX0_image_31 (by decide) ex1_4 rfl ?_
  refine gx_sub [1, 0] rfl ?_
  refine wx0_image_L32 (fun s18 h => ?_) FU _ _ h
  · refine gx_iconst 69 dX0_image_69 ?_
    obtain ⟨x1_19, ex1_19, h⟩ := bnd_e h
    refine gx_istore_n 70 [(1, J x1_19), (0, .ref (ad x0 0))] dX0_image_70 (by decide) ex1_19 rfl ?_
    refine gx_sub [1, 0] rfl ?_
    refine wx0_image_L71 (fun s46 h => ?_) FU _ _ h
    · refine gx_aload_n 155 0 dX0_image_155 rfl ?_
      refine gx_aload_n 156 0 dX0_image_156 rfl ?_
      refine gx_get (t := 1) (k := 22) (v := .ref (ad x0 1437)) 157 cw1 (by decide) (tgs (show stc 0 = (1, 0) by decide) (by decide)) q545 same_f (rf_ne (nes (show stc 1437 = (102, 70) by decide) (by decide))) dX0_image_157 ?_
      refine gx_aload_n 160 0 dX0_image_160 rfl ?_
      refine gx_get (t := 1) (k := 23) (v := J (s46 0 23)) 161 cw1 (by decide) (tgs (show stc 0 = (1, 0) by decide) (by decide)) q546 same_f rfl dX0_image_161 ?_
      obtain ⟨z47, ez47, h⟩ := opt_e h
      refine gx_callS (As := [.ref (ad x0 1437), J (s46 0 23)]) (rest := [.ref (ad x0 0)]) (st' := [J z47.1, .ref (ad x0 0)]) 164 2 (mx0_check ez47 l) (lw_S q1723 q1724 q147 q1725) (by decide +kernel) (by decide) rfl rfl (Nat.le_of_ble_eq_true rfl) dX0_image_164 rfl ?_
      obtain ⟨z48, ez48, h⟩ := opt_e h
      refine gx_callV (As := [J z47.1]) (rest := []) (st' := []) 167 1 cw1 (tgs (show stc 0 = (1, 0) by decide) (by decide)) (mx0_writes ez48 l) (lw_V q1719 q1721 qs52 q147 q1722) (by decide +kernel) (by decide) rfl rfl (Nat.le_of_ble_eq_true rfl) dX0_image_167 rfl ?_
      refine gx_aload_n 170 0 dX0_image_170 rfl ?_
      refine gx_get (t := 1) (k := 23) (v := J (z48.2 0 23)) 171 cw1 (by decide) (tgs (show stc 0 = (1, 0) by decide) (by decide)) q546 same_f rfl dX0_image_171 ?_
      exact gx_iret 174 dX0_image_174 (rt h)
/-! VerbAtDusk.sayingOn -/
noncomputable def x0_sayingOn_L89 (k151 : Int → XS → Option (Int × XS)) : Nat → Int → Int → Int → Int → XS → Option (Int × XS)
  | 0, _, _, _, _, _ => none
  | n + 1, x1_18, x2_19, x3_20, x4_21, s22 =>
    Option.bind (x0_verbs s22) fun z25 =>
    if i32 z25.1 ≤ i32 x4_21 then
      k151 x3_20 z25.2
    else
      gd (ok 6 x1_18) <|
      Option.bind (x0_byteAt ((x2_19 + 3) + x4_21) z25.2) fun z28 =>
      gd (ok 7 x4_21) <|
      bnd (ux z28.2 (104 + 1 + i32 x1_18) (i32 x4_21) z28.1) fun s30 =>
      bnd (fun (x1_31 : Int) (x2_32 : Int) (x4_33 : Int) (w34 : Int) (s35 : XS) =>
          bnd (x4_33 + 1) fun x4_36 =>
          x0_sayingOn_L89 k151 n x1_31 x2_32 w34 x4_36 s35) fun j37 =>
      bnd (fun (x1_38 : Int) (x2_39 : Int) (x4_40 : Int) (s41 : XS) =>
          j37 x1_38 x2_39 x4_40 0 s41) fun j42 =>
      if i32 x3_20 = 0 then
        j42 x1_18 x2_19 x4_21 s30
      else
        Option.bind (x0_byteAt ((x2_19 + 3) + x4_21) s30) fun z44 =>
        if i32 99 < i32 z44.1 then
          j42 x1_18 x2_19 x4_21 z44.2
        else
          j37 x1_18 x2_19 x4_21 1 z44.2
noncomputable def x0_sayingOn (a1 : Int) (a2 : Int) (s0 : XS) : Option (Int × XS) :=
  Option.bind (x0_byteAt a2 s0) fun z3 =>
  bnd (fun (x1_4 : Int) (x2_5 : Int) (w6 : Int) (s7 : XS) =>
      Option.bind (x0_byteAt x2_5 s7) fun z8 =>
      gd (ok 6 x1_4) <|
      bnd (ux z8.2 100 (i32 x1_4) z8.1) fun s10 =>
      Option.bind (x0_byteAt (x2_5 + 1) s10) fun z11 =>
      gd (ok 6 x1_4) <|
      bnd (ux z11.2 101 (i32 x1_4) z11.1) fun s13 =>
      Option.bind (x0_byteAt (x2_5 + 2) s13) fun z14 =>
      gd (ok 6 x1_4) <|
      bnd (ux z14.2 102 (i32 x1_4) z14.1) fun s16 =>
      bnd 0 fun x4_17 =>
      x0_sayingOn_L89
        (fun (x3_46 : Int) (s47 : XS) =>
          gd (bz x3_46) <|
          some (x3_46, s47))
        FU x1_4 x2_5 w6 x4_17 s16) fun j49 =>
  bnd (fun (x1_50 : Int) (x2_51 : Int) (s52 : XS) =>
      j49 x1_50 x2_51 0 s52) fun j53 =>
  if i32 9 < i32 z3.1 then
    j53 a1 a2 z3.2
  else
    Option.bind (x0_byteAt (a2 + 1) z3.2) fun z55 =>
    if i32 9 < i32 z55.1 then
      j53 a1 a2 z55.2
    else
      Option.bind (x0_byteAt (a2 + 2) z55.2) fun z57 =>
      if i32 9 < i32 z57.1 then
        j53 a1 a2 z57.2
      else
        j49 a1 a2 1 z57.2
theorem wx0_sayingOn_L89 {l : Launch} {x0 : Nat} {D : XD} {cN sN : Nat} {res : Int × XS} {k151 : Int → XS → Option (Int × XS)} (hk151 : ∀ (x3_23 : Int) (s24 : XS), k151 x3_23 s24 = some res → GX l cX0_sayingOn "VerbAtDusk" 5 (some .boolean) "sayingOn" [] x0 D true 1 3 cN sN (0, res) s24 151 [(3, J x3_23)] []) : ∀ (n : Nat) (x1_18 : Int) (x2_19 : Int) (x3_20 : Int) (x4_21 : Int) (s22 : XS), x0_sayingOn_L89 k151 n x1_18 x2_19 x3_20 x4_21 s22 = some res → GX l cX0_sayingOn "VerbAtDusk" 5 (some .boolean) "sayingOn" [] x0 D true 1 3 cN sN (0, res) s22 89 [(0, .ref (ad x0 0)), (1, J x1_18), (2, J x2_19), (3, J x3_20), (4, J x4_21)] [] := by
  intro n
  induction n with
  | zero =>
    intro x1_18 x2_19 x3_20 x4_21 s22 h
    cases h
  | succ n ih =>
    intro x1_18 x2_19 x3_20 x4_21 s22 h
    rw [x0_sayingOn_L89] at h
    refine gx_iload 89 4 dX0_sayingOn_89 rfl ?_
    refine gx_aload_n 91 0 dX0_sayingOn_91 rfl ?_
    obtain ⟨z25, ez25, h⟩ := opt_e h
    refine gx_callV (As := []) (rest := [J x4_21]) (st' := [J z25.1, J x4_21]) 92 0 cw1 (tgs (show stc 0 = (1, 0) by decide) (by decide)) (mx0_verbs ez25 l) (lw_V q1306 q1308 qs34 q147 q1309) (by decide +kernel) (by decide) rfl rfl (Nat.le_of_ble_eq_true rfl) dX0_sayingOn_92 rfl ?_
    refine gx_icmp_ge 95 151 dX0_sayingOn_95 (by decide) (fun c26 => ?_) (fun c26 => ?_)
    · replace h := if_t h c26
      refine gx_sub [3] rfl ?_
      exact hk151 _ _ h
    · replace h := if_f h c26
      refine gx_aload_n 98 0 dX0_sayingOn_98 rfl ?_
      refine gx_get (t := 1) (k := 12) (v := .ref (ad x0 99)) 99 cw1 (by decide) (tgs (show stc 0 = (1, 0) by decide) (by decide)) q535 same_f (rf_ne (nes (show stc 99 = (8, 6) by decide) (by decide))) dX0_sayingOn_99 ?_
      refine gx_getN (t := 8) (k := 7) (v := .ref (ad x0 104)) 102 cw8 (by decide) (tgs (show stc 99 = (8, 6) by decide) (by decide)) q490 same_f (rf_ne (nes (show stc 104 = (121, 6) by decide) (by decide))) dX0_sayingOn_102 ?_
      refine gx_iload_n 105 1 dX0_sayingOn_105 rfl ?_
      obtain ⟨g27, h⟩ := gd_e h
      refine gx_aald (t := 121) (ty := (.array .int)) (r := (104 + 1 + i32 x1_18)) 106 (by decide) rfl (by decide) (tgs (show stc 104 = (121, 6) by decide) (by decide)) (oks (show stc 104 = (121, 6) by decide) (by decide) g27) rfl (nes (st_g (ce := 99) (by decide) g27) (by decide)) dX0_sayingOn_106 ?_
      refine gx_iload 107 4 dX0_sayingOn_107 rfl ?_
      refine gx_aload_n 109 0 dX0_sayingOn_109 rfl ?_
      refine gx_iload_n 110 2 dX0_sayingOn_110 rfl ?_
      refine gx_iconst 111 dX0_sayingOn_111 ?_
      refine gx_iadd 112 dX0_sayingOn_112 ?_
      refine gx_iload 113 4 dX0_sayingOn_113 rfl ?_
      refine gx_iadd 115 dX0_sayingOn_115 ?_
      obtain ⟨z28, ez28, h⟩ := opt_e h
      refine gx_callV (As := [J ((x2_19 + 3) + x4_21)]) (rest := [J x4_21, .ref (ad x0 (104 + 1 + i32 x1_18))]) (st' := [J z28.1, J x4_21, .ref (ad x0 (104 + 1 + i32 x1_18))]) 116 1 cw1 (tgs (show stc 0 = (1, 0) by decide) (by decide)) (mx0_byteAt ez28 l) (lw_V q1604 q1606 qs48 q147 q1607) (by decide +kernel) (by decide) rfl rfl (Nat.le_of_ble_eq_true rfl) dX0_sayingOn_116 rfl ?_
      obtain ⟨g29, h⟩ := gd_e h
      obtain ⟨s30, es30, h⟩ := bnd_e h
      refine gx_iast 119 (tgs (st_g (ce := 99) (by decide) g27) (by decide)) (st0 (st_g (ce := 99) (by decide) g27) (by decide)) (stm (st_g (ce := 99) (by decide) g27) (by decide)) (oks (st_g (ce := 99) (by decide) g27) (by decide) g29) es30 dX0_sayingOn_119 ?_
      refine gx_iload_n 120 3 dX0_sayingOn_120 rfl ?_
      obtain ⟨j37, ej37, h⟩ := bnd_e h
      have hj37 : ∀ (x1_31 : Int) (x2_32 : Int) (x4_33 : Int) (w34 : Int) (s35 : XS), j37 x1_31 x2_32 x4_33 w34 s35 = some res → GX l cX0_sayingOn "VerbAtDusk" 5 (some .boolean) "sayingOn" [] x0 D true 1 3 cN sN (0, res) s35 144 [(0, .ref (ad x0 0)), (1, J x1_31), (2, J x2_32), (4, J x4_33)] [J w34] := by
        clear h
        intro x1_31 x2_32 x4_33 w34 s35 h
        subst ej37
        refine gx_istore_n 144 [(3, J w34), (0, .ref (ad x0 0)), (1, J x1_31), (2, J x2_32), (4, J x4_33)] dX0_sayingOn_144 (by decide) rfl rfl ?_
        obtain ⟨x4_36, ex4_36, h⟩ := bnd_e h
        refine gx_iinc 145 4 [(4, J x4_36), (3, J w34), (0, .ref (ad x0 0)), (1, J x1_31), (2, J x2_32)] dX0_sayingOn_145 rfl ex4_36 (by decide) rfl ?_
        refine gx_goto 148 89 dX0_sayingOn_148 (by decide) ?_
        refine gx_sub [2, 3, 4, 1, 0] rfl ?_
        exact ih _ _ _ _ _ h
      obtain ⟨j42, ej42, h⟩ := bnd_e h
      have hj42 : ∀ (x1_38 : Int) (x2_39 : Int) (x4_40 : Int) (s41 : XS), j42 x1_38 x2_39 x4_40 s41 = some res → GX l cX0_sayingOn "VerbAtDusk" 5 (some .boolean) "sayingOn" [] x0 D true 1 3 cN sN (0, res) s41 143 [(0, .ref (ad x0 0)), (1, J x1_38), (2, J x2_39), (4, J x4_40)] [] := by
        clear h
        intro x1_38 x2_39 x4_40 s41 h
        subst ej42
        refine gx_iconst 143 dX0_sayingOn_143 ?_
        refine gx_sub [0, 1, 2, 3] rfl ?_
        exact hj37 _ _ _ _ _ h
      refine gx_if_eq 121 143 dX0_sayingOn_121 (by decide) (fun c43 => ?_) (fun c43 => ?_)
      · replace h := if_t h c43
        refine gx_sub [0, 1, 2, 4] rfl ?_
        exact hj42 _ _ _ _ h
      · replace h := if_f h c43
        refine gx_aload_n 124 0 dX0_sayingOn_124 rfl ?_
        refine gx_iload_n 125 2 dX0_sayingOn_125 rfl ?_
        refine gx_iconst 126 dX0_sayingOn_126 ?_
        refine gx_iadd 127 dX0_sayingOn_127 ?_
        refine gx_iload 128 4 dX0_sayingOn_128 rfl ?_
        refine gx_iadd 130 dX0_sayingOn_130 ?_
        obtain ⟨z44, ez44, h⟩ := opt_e h
        refine gx_callV (As := [J ((x2_19 + 3) + x4_21)]) (rest := []) (st' := [J z44.1]) 131 1 cw1 (tgs (show stc 0 = (1, 0) by decide) (by decide)) (mx0_byteAt ez44 l) (lw_V q1604 q1606 qs48 q147 q1607) (by decide +kernel) (by decide) rfl rfl (Nat.le_of_ble_eq_true rfl) dX0_sayingOn_131 rfl ?_
        refine gx_bipush 134 dX0_sayingOn_134 (by decide) ?_
        refine gx_icmp_gt 136 143 dX0_sayingOn_136 (by decide) (fun c45 => ?_) (fun c45 => ?_)
        · replace h := if_t h c45
          refine gx_sub [0, 1, 2, 4] rfl ?_
          exact hj42 _ _ _ _ h
        · replace h := if_f h c45
          refine gx_iconst 139 dX0_sayingOn_139 ?_
          refine gx_goto 140 144 dX0_sayingOn_140 (by decide) ?_
          refine gx_sub [0, 1, 2, 4] rfl ?_
          exact hj37 _ _ _ _ _ h
theorem mx0_sayingOn {x0 : Nat} {D : XD} {a1 : Int} {a2 : Int} {s0 : XS} {res : Int × XS} (h : x0_sayingOn a1 a2 s0 = some res) (l : Launch) : XMet0 l yX0_sayingOn cX0_sayingOn 5 (some .boolean) 3 true x0 D [.ref (ad x0 0), J a1, J a2] s0 1 res := by
  refine XMet0.ofn [(0, .ref (ad x0 0)), (1, J a1), (2, J a2)] "VerbAtDusk" "sayingOn" rfl rfl (plainFor_of_name (by decide)) (Nat.le_of_ble_eq_true rfl) rfl ?_
  unfold x0_sayingOn at h
  generalize nC s0 = cN
  generalize nS s0 = sN
  refine gx_aload_n 0 0 dX0_sayingOn_0 rfl ?_
  refine gx_iload_n 1 2 dX0_sayingOn_1 rfl ?_
  obtain ⟨z3, ez3, h⟩ := opt_e h
  refine gx_callV (As := [J a2]) (rest := []) (st' := [J z3.1]) 2 1 cw1 (tgs (show stc 0 = (1, 0) by decide) (by decide)) (mx0_byteAt ez3 l) (lw_V q1604 q1606 qs48 q147 q1607) (by decide +kernel) (by decide) rfl rfl (Nat.le_of_ble_eq_true rfl) dX0_sayingOn_2 rfl ?_
  refine gx_bipush 5 dX0_sayingOn_5 (by decide) ?_
  obtain ⟨j49, ej49, h⟩ := bnd_e h
  have hj49 : ∀ (x1_4 : Int) (x2_5 : Int) (w6 : Int) (s7 : XS), j49 x1_4 x2_5 w6 s7 = some res → GX l cX0_sayingOn "VerbAtDusk" 5 (some .boolean) "sayingOn" [] x0 D true 1 3 cN sN (0, res) s7 39 [(0, .ref (ad x0 0)), (1, J x1_4), (2, J x2_5)] [J w6] := by
    clear h
    intro x1_4 x2_5 w6 s7 h
    subst ej49
    refine gx_istore_n 39 [(3, J w6), (0, .ref (ad x0 0)), (1, J x1_4), (2, J x2_5)] dX0_sayingOn_39 (by decide) rfl rfl ?_
    refine gx_aload_n 40 1 dX0_sayingOn_40 rfl ?_
    refine gx_get (t := 1) (k := 12) (v := .ref (ad x0 99)) 41 cw1 (by decide) (tgs (show stc 0 = (1, 0) by decide) (by decide)) q535 same_f (rf_ne (nes (show stc 99 = (8, 6) by decide) (by decide))) dX0_sayingOn_41 ?_
    refine gx_getN (t := 8) (k := 3) (v := .ref (ad x0 100)) 44 cw8 (by decide) (tgs (show stc 99 = (8, 6) by decide) (by decide)) q481 same_f (rf_ne (nes (show stc 100 = (101, 6) by decide) (by decide))) dX0_sayingOn_44 ?_
    refine gx_iload_n 47 2 dX0_sayingOn_47 rfl ?_
    refine gx_aload_n 48 1 dX0_sayingOn_48 rfl ?_
    refine gx_iload_n 49 3 dX0_sayingOn_49 rfl ?_
    obtain ⟨z8, ez8, h⟩ := opt_e h
    refine gx_callV (As := [J x2_5]) (rest := [J x1_4, .ref (ad x0 100)]) (st' := [J z8.1, J x1_4, .ref (ad x0 100)]) 50 1 cw1 (tgs (show stc 0 = (1, 0) by decide) (by decide)) (mx0_byteAt ez8 l) (lw_V q1604 q1606 qs48 q147 q1607) (by decide +kernel) (by decide) rfl rfl (Nat.le_of_ble_eq_true rfl) dX0_sayingOn_50 rfl ?_
    obtain ⟨g9, h⟩ := gd_e h
    obtain ⟨s10, es10, h⟩ := bnd_e h
    refine gx_iast 53 (tgs (show stc 100 = (101, 6) by decide) (by decide)) (st0 (show stc 100 = (101, 6) by decide) (by decide)) (stm (show stc 100 = (101, 6) by decide) (by decide)) (oks (show stc 100 = (101, 6) by decide) (by decide) g9) es10 dX0_sayingOn_53 ?_
    refine gx_aload_n 54 1 dX0_sayingOn_54 rfl ?_
    refine gx_get (t := 1) (k := 12) (v := .ref (ad x0 99)) 55 cw1 (by decide) (tgs (show stc 0 = (1, 0) by decide) (by decide)) q535 same_f (rf_ne (nes (show stc 99 = (8, 6) by decide) (by decide))) dX0_sayingOn_55 ?_
    refine gx_getN (t := 8) (k := 4) (v := .ref (ad x0 101)) 58 cw8 (by decide) (tgs (show stc 99 = (8, 6) by decide) (by decide)) q484 same_f (rf_ne (nes (show stc 101 = (101, 6) by decide) (by decide))) dX0_sayingOn_58 ?_
    refine gx_iload_n 61 2 dX0_sayingOn_61 rfl ?_
    refine gx_aload_n 62 1 dX0_sayingOn_62 rfl ?_
    refine gx_iload_n 63 3 dX0_sayingOn_63 rfl ?_
    refine gx_iconst 64 dX0_sayingOn_64 ?_
    refine gx_iadd 65 dX0_sayingOn_65 ?_
    obtain ⟨z11, ez11, h⟩ := opt_e h
    refine gx_callV (As := [J (x2_5 + 1)]) (rest := [J x1_4, .ref (ad x0 101)]) (st' := [J z11.1, J x1_4, .ref (ad x0 101)]) 66 1 cw1 (tgs (show stc 0 = (1, 0) by decide) (by decide)) (mx0_byteAt ez11 l) (lw_V q1604 q1606 qs48 q147 q1607) (by decide +kernel) (by decide) rfl rfl (Nat.le_of_ble_eq_true rfl) dX0_sayingOn_66 rfl ?_
    obtain ⟨g12, h⟩ := gd_e h
    obtain ⟨s13, es13, h⟩ := bnd_e h
    refine gx_iast 69 (tgs (show stc 101 = (101, 6) by decide) (by decide)) (st0 (show stc 101 = (101, 6) by decide) (by decide)) (stm (show stc 101 = (101, 6) by decide) (by decide)) (oks (show stc 101 = (101, 6) by decide) (by decide) g12) es13 dX0_sayingOn_69 ?_
    refine gx_aload_n 70 1 dX0_sayingOn_70 rfl ?_
    refine gx_get (t := 1) (k := 12) (v := .ref (ad x0 99)) 71 cw1 (by decide) (tgs (show stc 0 = (1, 0) by decide) (by decide)) q535 same_f (rf_ne (nes (show stc 99 = (8, 6) by decide) (by decide))) dX0_sayingOn_71 ?_
    refine gx_getN (t := 8) (k := 5) (v := .ref (ad x0 102)) 74 cw8 (by decide) (tgs (show stc 99 = (8, 6) by decide) (by decide)) q486 same_f (rf_ne (nes (show stc 102 = (101, 6) by decide) (by decide))) dX0_sayingOn_74 ?_
    refine gx_iload_n 77 2 dX0_sayingOn_77 rfl ?_
    refine gx_aload_n 78 1 dX0_sayingOn_78 rfl ?_
    refine gx_iload_n 79 3 dX0_sayingOn_79 rfl ?_
    refine gx_iconst 80 dX0_sayingOn_80 ?_
    refine gx_iadd 81 dX0_sayingOn_81 ?_
    obtain ⟨z14, ez14, h⟩ := opt_e h
    refine gx_callV (As := [J (x2_5 + 2)]) (rest := [J x1_4, .ref (ad x0 102)]) (st' := [J z14.1, J x1_4, .ref (ad x0 102)]) 82 1 cw1 (tgs (show stc 0 = (1, 0) by decide) (by decide)) (mx0_byteAt ez14 l) (lw_V q1604 q1606 qs48 q147 q1607) (by decide +kernel) (by decide) rfl rfl (Nat.le_of_ble_eq_true rfl) dX0_sayingOn_82 rfl ?_
    obtain ⟨g15, h⟩ := gd_e h
    obtain ⟨s16, es16, h⟩ := bnd_e h
    refine gx_iast 85 (tgs (show stc 102 = (101, 6) by decide) (by decide)) (st0 (show stc 102 = (101, 6) by decide) (by decide)) (stm (show stc 102 = (101, 6) by decide) (by decide)) (oks (show stc 102 = (101, 6) by decide) (by decide) g15) es16 dX0_sayingOn_85 ?_
    refine gx_iconst 86 dX0_sayingOn_86 ?_
    obtain ⟨x4_17, ex4_17, h⟩ := bnd_e h
    refine gx_istore 87 [(4, J x4_17), (3, J w6), (0, .ref (ad x0 0)), (1, J x1_4), (2, J x2_5)] dX0_sayingOn_87 (by decide) ex4_17 rfl ?_
    refine gx_sub [2, 3, 4, 1, 0] rfl ?_
    refine wx0_sayingOn_L89 (fun x3_46 s47 h => ?_) FU _ _ _ _ _ h
    · refine gx_iload_n 151 0 dX0_sayingOn_151 rfl ?_
      obtain ⟨g48, h⟩ := gd_e h
      exact gx_zret 152 dX0_sayingOn_152 g48 (rt h)
  obtain ⟨j53, ej53, h⟩ := bnd_e h
  have hj53 : ∀ (x1_50 : Int) (x2_51 : Int) (s52 : XS), j53 x1_50 x2_51 s52 = some res → GX l cX0_sayingOn "VerbAtDusk" 5 (some .boolean) "sayingOn" [] x0 D true 1 3 cN sN (0, res) s52 38 [(0, .ref (ad x0 0)), (1, J x1_50), (2, J x2_51)] [] := by
    clear h
    intro x1_50 x2_51 s52 h
    subst ej53
    refine gx_iconst 38 dX0_sayingOn_38 ?_
    refine gx_sub [0, 1, 2] rfl ?_
    exact hj49 _ _ _ _ h
  refine gx_icmp_gt 7 38 dX0_sayingOn_7 (by decide) (fun c54 => ?_) (fun c54 => ?_)
  · replace h := if_t h c54
    refine gx_sub [0, 1, 2] rfl ?_
    exact hj53 _ _ _ h
  · replace h := if_f h c54
    refine gx_aload_n 10 0 dX0_sayingOn_10 rfl ?_
    refine gx_iload_n 11 2 dX0_sayingOn_11 rfl ?_
    refine gx_iconst 12 dX0_sayingOn_12 ?_
    refine gx_iadd 13 dX0_sayingOn_13 ?_
    obtain ⟨z55, ez55, h⟩ := opt_e h
    refine gx_callV (As := [J (a2 + 1)]) (rest := []) (st' := [J z55.1]) 14 1 cw1 (tgs (show stc 0 = (1, 0) by decide) (by decide)) (mx0_byteAt ez55 l) (lw_V q1604 q1606 qs48 q147 q1607) (by decide +kernel) (by decide) rfl rfl (Nat.le_of_ble_eq_true rfl) dX0_sayingOn_14 rfl ?_
    refine gx_bipush 17 dX0_sayingOn_17 (by decide) ?_
    refine gx_icmp_gt 19 38 dX0_sayingOn_19 (by decide) (fun c56 => ?_) (fun c56 => ?_)
    · replace h := if_t h c56
      refine gx_sub [0, 1, 2] rfl ?_
      exact hj53 _ _ _ h
    · replace h := if_f h c56
      refine gx_aload_n 22 0 dX0_sayingOn_22 rfl ?_
      refine gx_iload_n 23 2 dX0_sayingOn_23 rfl ?_
      refine gx_iconst 24 dX0_sayingOn_24 ?_
      refine gx_iadd 25 dX0_sayingOn_25 ?_
      obtain ⟨z57, ez57, h⟩ := opt_e h
      refine gx_callV (As := [J (a2 + 2)]) (rest := []) (st' := [J z57.1]) 26 1 cw1 (tgs (show stc 0 = (1, 0) by decide) (by decide)) (mx0_byteAt ez57 l) (lw_V q1604 q1606 qs48 q147 q1607) (by decide +kernel) (by decide) rfl rfl (Nat.le_of_ble_eq_true rfl) dX0_sayingOn_26 rfl ?_
      refine gx_bipush 29 dX0_sayingOn_29 (by decide) ?_
      refine gx_icmp_gt 31 38 dX0_sayingOn_31 (by decide) (fun c58 => ?_) (fun c58 => ?_)
      · replace h := if_t h c58
        refine gx_sub [0, 1, 2] rfl ?_
        exact hj53 _ _ _ h
      · replace h := if_f h c58
        refine gx_iconst 34 dX0_sayingOn_34 ?_
        refine gx_goto 35 39 dX0_sayingOn_35 (by decide) ?_
        refine gx_sub [0, 1, 2] rfl ?_
        exact hj49 _ _ _ _ h
/-! VerbAtDusk.comesOn -/
noncomputable def x0_comesOn_L109 (k161 : Int → XS → Option (Int × XS)) (k130 : XS → Option (Int × XS)) : Nat → Int → Int → XS → Option (Int × XS)
  | 0, _, _, _ => none
  | n + 1, x2_22, x4_23, s24 =>
    Option.bind (x0_verbs s24) fun z28 =>
    if i32 z28.1 ≤ i32 x4_23 then
      k161 x2_22 z28.2
    else
      Option.bind (x0_byteAt (2 + x4_23) z28.2) fun z30 =>
      if i32 z30.1 ≤ i32 1 then
        Option.bind (x0_byteAt (2 + x4_23) z30.2) fun z32 =>
        bnd (ux z32.2 99 1 (ior (z30.2 99 1) (ishl z32.1 x4_23))) fun s33 =>
        bnd (x4_23 + 1) fun x4_34 =>
        x0_comesOn_L109 k161 k130 n x2_22 x4_34 s33
      else
        k130 z30.2
noncomputable def x0_comesOn_L164 (k201 : XS → Option (Int × XS)) (k193 : XS → Option (Int × XS)) : Nat → Int → Int → XS → Option (Int × XS)
  | 0, _, _, _ => none
  | n + 1, x2_38, x4_39, s40 =>
    Option.bind (x0_sayings s40) fun z43 =>
    if i32 z43.1 ≤ i32 x4_39 then
      k201 z43.2
    else
      Option.bind (x0_verbs z43.2) fun z45 =>
      Option.bind (x0_sayingOn x4_39 ((2 + z45.1) + (x2_38 * x4_39)) z45.2) fun z46 =>
      if i32 z46.1 = 0 then
        k193 z46.2
      else
        bnd (x4_39 + 1) fun x4_48 =>
        x0_comesOn_L164 k201 k193 n x2_38 x4_48 z46.2
noncomputable def x0_comesOn (a1 : Int) (s0 : XS) : Option (Int × XS) :=
  Option.bind (x0_verbs s0) fun z2 =>
  bnd (3 + z2.1) fun x2_3 =>
  Option.bind (x0_byteAt 0 z2.2) fun z4 =>
  Option.bind (x0_byteAt 1 z4.2) fun z5 =>
  bnd (ior (ishl z4.1 8) z5.1) fun x3_6 =>
  Option.bind (x0_isCountry z5.2) fun z7 =>
  if i32 z7.1 = 0 then
    some (0, z7.2)
  else
    Option.bind (x0_verbs z7.2) fun z9 =>
    Option.bind (x0_sayings z9.2) fun z10 =>
    if i32 a1 = i32 ((3 + z9.1) + (x2_3 * z10.1)) then
      Option.bind (x0_byteAt (a1 - 1) z10.2) fun z12 =>
      Option.bind (x0_check 6 (a1 - 1) z12.2) fun z13 =>
      if i32 z12.1 = i32 z13.1 then
        if i32 x3_6 ≤ i32 999 then
          Option.bind (x7_copy 99 36 z13.2) fun z16 =>
          gd (z16.1 = 99) <|
          bnd (ux z16.2 99 0 x3_6) fun s18 =>
          bnd (ux s18 99 2 0) fun s19 =>
          bnd (ux s19 99 1 0) fun s20 =>
          bnd 0 fun x4_21 =>
          x0_comesOn_L109
            (fun (x2_35 : Int) (s36 : XS) =>
              bnd 0 fun x4_37 =>
              x0_comesOn_L164
                (fun (s49 : XS) =>
                  some (1, s49))
                (fun (s50 : XS) =>
                  some (0, s50))
                FU x2_35 x4_37 s36)
            (fun (s51 : XS) =>
              some (0, s51))
            FU x2_3 x4_21 s20
        else
          some (0, z13.2)
      else
        some (0, z13.2)
    else
      some (0, z10.2)
theorem wx0_comesOn_L109 {l : Launch} {x0 : Nat} {D : XD} {cN sN : Nat} {res : Int × XS} {k161 : Int → XS → Option (Int × XS)} {k130 : XS → Option (Int × XS)} (hk161 : ∀ (x2_25 : Int) (s26 : XS), k161 x2_25 s26 = some res → GX l cX0_comesOn "VerbAtDusk" 5 (some .boolean) "comesOn" [] x0 D true 1 4 cN sN (0, res) s26 161 [(0, .ref (ad x0 0)), (2, J x2_25)] []) (hk130 : ∀ (s27 : XS), k130 s27 = some res → GX l cX0_comesOn "VerbAtDusk" 5 (some .boolean) "comesOn" [] x0 D true 1 4 cN sN (0, res) s27 130 [] []) : ∀ (n : Nat) (x2_22 : Int) (x4_23 : Int) (s24 : XS), x0_comesOn_L109 k161 k130 n x2_22 x4_23 s24 = some res → GX l cX0_comesOn "VerbAtDusk" 5 (some .boolean) "comesOn" [] x0 D true 1 4 cN sN (0, res) s24 109 [(0, .ref (ad x0 0)), (2, J x2_22), (4, J x4_23)] [] := by
  intro n
  induction n with
  | zero =>
    intro x2_22 x4_23 s24 h
    cases h
  | succ n ih =>
    intro x2_22 x4_23 s24 h
    rw [x0_comesOn_L109] at h
    refine gx_iload 109 2 dX0_comesOn_109 rfl ?_
    refine gx_aload_n 111 0 dX0_comesOn_111 rfl ?_
    obtain ⟨z28, ez28, h⟩ := opt_e h
    refine gx_callV (As := []) (rest := [J x4_23]) (st' := [J z28.1, J x4_23]) 112 0 cw1 (tgs (show stc 0 = (1, 0) by decide) (by decide)) (mx0_verbs ez28 l) (lw_V q1306 q1308 qs34 q147 q1309) (by decide +kernel) (by decide) rfl rfl (Nat.le_of_ble_eq_true rfl) dX0_comesOn_112 rfl ?_
    refine gx_icmp_ge 115 161 dX0_comesOn_115 (by decide) (fun c29 => ?_) (fun c29 => ?_)
    · replace h := if_t h c29
      refine gx_sub [0, 1] rfl ?_
      exact hk161 _ _ h
    · replace h := if_f h c29
      refine gx_aload_n 118 0 dX0_comesOn_118 rfl ?_
      refine gx_iconst 119 dX0_comesOn_119 ?_
      refine gx_iload 120 2 dX0_comesOn_120 rfl ?_
      refine gx_iadd 122 dX0_comesOn_122 ?_
      obtain ⟨z30, ez30, h⟩ := opt_e h
      refine gx_callV (As := [J (2 + x4_23)]) (rest := []) (st' := [J z30.1]) 123 1 cw1 (tgs (show stc 0 = (1, 0) by decide) (by decide)) (mx0_byteAt ez30 l) (lw_V q1604 q1606 qs48 q147 q1607) (by decide +kernel) (by decide) rfl rfl (Nat.le_of_ble_eq_true rfl) dX0_comesOn_123 rfl ?_
      refine gx_iconst 126 dX0_comesOn_126 ?_
      refine gx_icmp_le 127 132 dX0_comesOn_127 (by decide) (fun c31 => ?_) (fun c31 => ?_)
      · replace h := if_t h c31
        refine gx_aload_n 132 0 dX0_comesOn_132 rfl ?_
        refine gx_get (t := 1) (k := 12) (v := .ref (ad x0 99)) 133 cw1 (by decide) (tgs (show stc 0 = (1, 0) by decide) (by decide)) q535 same_f (rf_ne (nes (show stc 99 = (8, 6) by decide) (by decide))) dX0_comesOn_133 ?_
        refine gx_dup 136 dX0_comesOn_136 rfl ?_
        refine gx_getN (t := 8) (k := 1) (v := J (z30.2 99 1)) 137 cw8 (by decide) (tgs (show stc 99 = (8, 6) by decide) (by decide)) q476 same_f rfl dX0_comesOn_137 ?_
        refine gx_aload_n 140 0 dX0_comesOn_140 rfl ?_
        refine gx_iconst 141 dX0_comesOn_141 ?_
        refine gx_iload 142 2 dX0_comesOn_142 rfl ?_
        refine gx_iadd 144 dX0_comesOn_144 ?_
        obtain ⟨z32, ez32, h⟩ := opt_e h
        refine gx_callV (As := [J (2 + x4_23)]) (rest := [J (z30.2 99 1), .ref (ad x0 99)]) (st' := [J z32.1, J (z30.2 99 1), .ref (ad x0 99)]) 145 1 cw1 (tgs (show stc 0 = (1, 0) by decide) (by decide)) (mx0_byteAt ez32 l) (lw_V q1604 q1606 qs48 q147 q1607) (by decide +kernel) (by decide) rfl rfl (Nat.le_of_ble_eq_true rfl) dX0_comesOn_145 rfl ?_
        refine gx_iload 148 2 dX0_comesOn_148 rfl ?_
        refine gx_ishl 150 dX0_comesOn_150 ?_
        refine gx_ior 151 dX0_comesOn_151 ?_
        obtain ⟨s33, es33, h⟩ := bnd_e h
        refine gx_putN (t := 8) (k := 1) (x := (ior (z30.2 99 1) (ishl z32.1 x4_23))) (ty := .int) 152 cw8 (by decide) (tgs (show stc 99 = (8, 6) by decide) (by decide)) (st0 (show stc 99 = (8, 6) by decide) (by decide)) (stm (show stc 99 = (8, 6) by decide) (by decide)) q476 same_f rfl (by decide +kernel) rfl rfl (congrArg J (ux_s _ _ _ _)) es33 dX0_comesOn_152 ?_
        obtain ⟨x4_34, ex4_34, h⟩ := bnd_e h
        refine gx_iinc 155 2 [(4, J x4_34), (0, .ref (ad x0 0)), (2, J x2_22)] dX0_comesOn_155 rfl ex4_34 (by decide) rfl ?_
        refine gx_goto 158 109 dX0_comesOn_158 (by decide) ?_
        refine gx_sub [1, 2, 0] rfl ?_
        exact ih _ _ _ h
      · replace h := if_f h c31
        refine gx_sub [] rfl ?_
        exact hk130 _ h
theorem wx0_comesOn_L164 {l : Launch} {x0 : Nat} {D : XD} {cN sN : Nat} {res : Int × XS} {k201 : XS → Option (Int × XS)} {k193 : XS → Option (Int × XS)} (hk201 : ∀ (s41 : XS), k201 s41 = some res → GX l cX0_comesOn "VerbAtDusk" 5 (some .boolean) "comesOn" [] x0 D true 1 4 cN sN (0, res) s41 201 [] []) (hk193 : ∀ (s42 : XS), k193 s42 = some res → GX l cX0_comesOn "VerbAtDusk" 5 (some .boolean) "comesOn" [] x0 D true 1 4 cN sN (0, res) s42 193 [] []) : ∀ (n : Nat) (x2_38 : Int) (x4_39 : Int) (s40 : XS), x0_comesOn_L164 k201 k193 n x2_38 x4_39 s40 = some res → GX l cX0_comesOn "VerbAtDusk" 5 (some .boolean) "comesOn" [] x0 D true 1 4 cN sN (0, res) s40 164 [(0, .ref (ad x0 0)), (2, J x2_38), (4, J x4_39)] [] := by
  intro n
  induction n with
  | zero =>
    intro x2_38 x4_39 s40 h
    cases h
  | succ n ih =>
    intro x2_38 x4_39 s40 h
    rw [x0_comesOn_L164] at h
    refine gx_iload 164 2 dX0_comesOn_164 rfl ?_
    refine gx_aload_n 166 0 dX0_comesOn_166 rfl ?_
    obtain ⟨z43, ez43, h⟩ := opt_e h
    refine gx_callV (As := []) (rest := [J x4_39]) (st' := [J z43.1, J x4_39]) 167 0 cw1 (tgs (show stc 0 = (1, 0) by decide) (by decide)) (mx0_sayings ez43 l) (lw_V q1305 q1290 qs33 q147 q1291) (by decide +kernel) (by decide) rfl rfl (Nat.le_of_ble_eq_true rfl) dX0_comesOn_167 rfl ?_
    refine gx_icmp_ge 170 201 dX0_comesOn_170 (by decide) (fun c44 => ?_) (fun c44 => ?_)
    · replace h := if_t h c44
      refine gx_sub [] rfl ?_
      exact hk201 _ h
    · replace h := if_f h c44
      refine gx_aload_n 173 0 dX0_comesOn_173 rfl ?_
      refine gx_iload 174 2 dX0_comesOn_174 rfl ?_
      refine gx_iconst 176 dX0_comesOn_176 ?_
      refine gx_aload_n 177 0 dX0_comesOn_177 rfl ?_
      obtain ⟨z45, ez45, h⟩ := opt_e h
      refine gx_callV (As := []) (rest := [J 2, J x4_39, .ref (ad x0 0)]) (st' := [J z45.1, J 2, J x4_39, .ref (ad x0 0)]) 178 0 cw1 (tgs (show stc 0 = (1, 0) by decide) (by decide)) (mx0_verbs ez45 l) (lw_V q1306 q1308 qs34 q147 q1309) (by decide +kernel) (by decide) rfl rfl (Nat.le_of_ble_eq_true rfl) dX0_comesOn_178 rfl ?_
      refine gx_iadd 181 dX0_comesOn_181 ?_
      refine gx_iload_n 182 1 dX0_comesOn_182 rfl ?_
      refine gx_iload 183 2 dX0_comesOn_183 rfl ?_
      refine gx_imul 185 dX0_comesOn_185 ?_
      refine gx_iadd 186 dX0_comesOn_186 ?_
      obtain ⟨z46, ez46, h⟩ := opt_e h
      refine gx_callV (As := [J x4_39, J ((2 + z45.1) + (x2_38 * x4_39))]) (rest := []) (st' := [J z46.1]) 187 2 cw1 (tgs (show stc 0 = (1, 0) by decide) (by decide)) (mx0_sayingOn ez46 l) (lw_V q1738 q1740 qs54 q147 q1741) (by decide +kernel) (by decide) rfl rfl (Nat.le_of_ble_eq_true rfl) dX0_comesOn_187 rfl ?_
      refine gx_if_ne 190 195 dX0_comesOn_190 (by decide) (fun c47 => ?_) (fun c47 => ?_)
      · replace h := if_f h c47
        obtain ⟨x4_48, ex4_48, h⟩ := bnd_e h
        refine gx_iinc 195 2 [(4, J x4_48), (0, .ref (ad x0 0)), (2, J x2_38)] dX0_comesOn_195 rfl ex4_48 (by decide) rfl ?_
        refine gx_goto 198 164 dX0_comesOn_198 (by decide) ?_
        refine gx_sub [1, 2, 0] rfl ?_
        exact ih _ _ _ h
      · replace h := if_t h c47
        refine gx_sub [] rfl ?_
        exact hk193 _ h
theorem mx0_comesOn {x0 : Nat} {D : XD} {a1 : Int} {s0 : XS} {res : Int × XS} (h : x0_comesOn a1 s0 = some res) (l : Launch) : XMet0 l yX0_comesOn cX0_comesOn 5 (some .boolean) 4 true x0 D [.ref (ad x0 0), J a1] s0 1 res := by
  refine XMet0.ofn [(0, .ref (ad x0 0)), (1, J a1)] "VerbAtDusk" "comesOn" rfl rfl (plainFor_of_name (by decide)) (Nat.le_of_ble_eq_true rfl) rfl ?_
  unfold x0_comesOn at h
  generalize nC s0 = cN
  generalize nS s0 = sN
  refine gx_iconst 0 dX0_comesOn_0 ?_
  refine gx_aload_n 1 0 dX0_comesOn_1 rfl ?_
  obtain ⟨z2, ez2, h⟩ := opt_e h
  refine gx_callV (As := []) (rest := [J 3]) (st' := [J z2.1, J 3]) 2 0 cw1 (tgs (show stc 0 = (1, 0) by decide) (by decide)) (mx0_verbs ez2 l) (lw_V q1306 q1308 qs34 q147 q1309) (by decide +kernel) (by decide) rfl rfl (Nat.le_of_ble_eq_true rfl) dX0_comesOn_2 rfl ?_
  refine gx_iadd 5 dX0_comesOn_5 ?_
  obtain ⟨x2_3, ex2_3, h⟩ := bnd_e h
  refine gx_istore_n 6 [(2, J x2_3), (0, .ref (ad x0 0)), (1, J a1)] dX0_comesOn_6 (by decide) ex2_3 rfl ?_
  refine gx_aload_n 7 1 dX0_comesOn_7 rfl ?_
  refine gx_iconst 8 dX0_comesOn_8 ?_
  obtain ⟨z4, ez4, h⟩ := opt_e h
  refine gx_callV (As := [J 0]) (rest := []) (st' := [J z4.1]) 9 1 cw1 (tgs (show stc 0 = (1, 0) by decide) (by decide)) (mx0_byteAt ez4 l) (lw_V q1604 q1606 qs48 q147 q1607) (by decide +kernel) (by decide) rfl rfl (Nat.le_of_ble_eq_true rfl) dX0_comesOn_9 rfl ?_
  refine gx_bipush 12 dX0_comesOn_12 (by decide) ?_
  refine gx_ishl 14 dX0_comesOn_14 ?_
  refine gx_aload_n 15 1 dX0_comesOn_15 rfl ?_
  refine gx_iconst 16 dX0_comesOn_16 ?_
  obtain ⟨z5, ez5, h⟩ := opt_e h
  refine gx_callV (As := [J 1]) (rest := [J (ishl z4.1 8)]) (st' := [J z5.1, J (ishl z4.1 8)]) 17 1 cw1 (tgs (show stc 0 = (1, 0) by decide) (by decide)) (mx0_byteAt ez5 l) (lw_V q1604 q1606 qs48 q147 q1607) (by decide +kernel) (by decide) rfl rfl (Nat.le_of_ble_eq_true rfl) dX0_comesOn_17 rfl ?_
  refine gx_ior 20 dX0_comesOn_20 ?_
  obtain ⟨x3_6, ex3_6, h⟩ := bnd_e h
  refine gx_istore_n 21 [(3, J x3_6), (2, J x2_3), (0, .ref (ad x0 0)), (1, J a1)] dX0_comesOn_21 (by decide) ex3_6 rfl ?_
  refine gx_aload_n 22 2 dX0_comesOn_22 rfl ?_
  obtain ⟨z7, ez7, h⟩ := opt_e h
  refine gx_callV (As := []) (rest := []) (st' := [J z7.1]) 23 0 cw1 (tgs (show stc 0 = (1, 0) by decide) (by decide)) (mx0_isCountry ez7 l) (lw_V q1516 q1518 qs42 q147 q1519) (by decide +kernel) (by decide) rfl rfl (Nat.le_of_ble_eq_true rfl) dX0_comesOn_23 rfl ?_
  refine gx_if_eq 26 73 dX0_comesOn_26 (by decide) (fun c8 => ?_) (fun c8 => ?_)
  · replace h := if_t h c8
    refine gx_iconst 73 dX0_comesOn_73 ?_
    exact gx_zret 74 dX0_comesOn_74 (by decide) (rt h)
  · replace h := if_f h c8
    refine gx_iload_n 29 3 dX0_comesOn_29 rfl ?_
    refine gx_iconst 30 dX0_comesOn_30 ?_
    refine gx_aload_n 31 2 dX0_comesOn_31 rfl ?_
    obtain ⟨z9, ez9, h⟩ := opt_e h
    refine gx_callV (As := []) (rest := [J 3, J a1]) (st' := [J z9.1, J 3, J a1]) 32 0 cw1 (tgs (show stc 0 = (1, 0) by decide) (by decide)) (mx0_verbs ez9 l) (lw_V q1306 q1308 qs34 q147 q1309) (by decide +kernel) (by decide) rfl rfl (Nat.le_of_ble_eq_true rfl) dX0_comesOn_32 rfl ?_
    refine gx_iadd 35 dX0_comesOn_35 ?_
    refine gx_iload_n 36 1 dX0_comesOn_36 rfl ?_
    refine gx_aload_n 37 2 dX0_comesOn_37 rfl ?_
    obtain ⟨z10, ez10, h⟩ := opt_e h
    refine gx_callV (As := []) (rest := [J x2_3, J (3 + z9.1), J a1]) (st' := [J z10.1, J x2_3, J (3 + z9.1), J a1]) 38 0 cw1 (tgs (show stc 0 = (1, 0) by decide) (by decide)) (mx0_sayings ez10 l) (lw_V q1305 q1290 qs33 q147 q1291) (by decide +kernel) (by decide) rfl rfl (Nat.le_of_ble_eq_true rfl) dX0_comesOn_38 rfl ?_
    refine gx_imul 41 dX0_comesOn_41 ?_
    refine gx_iadd 42 dX0_comesOn_42 ?_
    refine gx_icmp_ne 43 73 dX0_comesOn_43 (by decide) (fun c11 => ?_) (fun c11 => ?_)
    · replace h := if_f h c11
      refine gx_iconst 73 dX0_comesOn_73 ?_
      exact gx_zret 74 dX0_comesOn_74 (by decide) (rt h)
    · replace h := if_t h c11
      refine gx_aload_n 46 2 dX0_comesOn_46 rfl ?_
      refine gx_iload_n 47 3 dX0_comesOn_47 rfl ?_
      refine gx_iconst 48 dX0_comesOn_48 ?_
      refine gx_isub 49 dX0_comesOn_49 ?_
      obtain ⟨z12, ez12, h⟩ := opt_e h
      refine gx_callV (As := [J (a1 - 1)]) (rest := []) (st' := [J z12.1]) 50 1 cw1 (tgs (show stc 0 = (1, 0) by decide) (by decide)) (mx0_byteAt ez12 l) (lw_V q1604 q1606 qs48 q147 q1607) (by decide +kernel) (by decide) rfl rfl (Nat.le_of_ble_eq_true rfl) dX0_comesOn_50 rfl ?_
      refine gx_aload_n 53 2 dX0_comesOn_53 rfl ?_
      refine gx_get (t := 1) (k := 1) (v := .ref (ad x0 6)) 54 cw1 (by decide) (tgs (show stc 0 = (1, 0) by decide) (by decide)) q521 same_f (rf_ne (nes (show stc 6 = (102, 1600) by decide) (by decide))) dX0_comesOn_54 ?_
      refine gx_iload_n 57 3 dX0_comesOn_57 rfl ?_
      refine gx_iconst 58 dX0_comesOn_58 ?_
      refine gx_isub 59 dX0_comesOn_59 ?_
      obtain ⟨z13, ez13, h⟩ := opt_e h
      refine gx_callS (As := [.ref (ad x0 6), J (a1 - 1)]) (rest := [J z12.1]) (st' := [J z13.1, J z12.1]) 60 2 (mx0_check ez13 l) (lw_S q1723 q1724 q147 q1725) (by decide +kernel) (by decide) rfl rfl (Nat.le_of_ble_eq_true rfl) dX0_comesOn_60 rfl ?_
      refine gx_icmp_ne 63 73 dX0_comesOn_63 (by decide) (fun c14 => ?_) (fun c14 => ?_)
      · replace h := if_f h c14
        refine gx_iconst 73 dX0_comesOn_73 ?_
        exact gx_zret 74 dX0_comesOn_74 (by decide) (rt h)
      · replace h := if_t h c14
        refine gx_iload_n 66 0 dX0_comesOn_66 rfl ?_
        refine gx_sipush 67 dX0_comesOn_67 (by decide) ?_
        refine gx_icmp_le 70 75 dX0_comesOn_70 (by decide) (fun c15 => ?_) (fun c15 => ?_)
        · replace h := if_t h c15
          refine gx_aload_n 75 2 dX0_comesOn_75 rfl ?_
          refine gx_get (t := 1) (k := 12) (v := .ref (ad x0 99)) 76 cw1 (by decide) (tgs (show stc 0 = (1, 0) by decide) (by decide)) q535 same_f (rf_ne (nes (show stc 99 = (8, 6) by decide) (by decide))) dX0_comesOn_76 ?_
          refine gx_aload_n 79 2 dX0_comesOn_79 rfl ?_
          refine gx_get (t := 1) (k := 11) (v := .ref (ad x0 36)) 80 cw1 (by decide) (tgs (show stc 0 = (1, 0) by decide) (by decide)) q534 same_f (rf_ne (nes (show stc 36 = (8, 6) by decide) (by decide))) dX0_comesOn_80 ?_
          obtain ⟨z16, ez16, h⟩ := opt_e h
          refine gx_callV (As := [.ref (ad x0 36)]) (rest := []) (st' := [.ref (ad x0 z16.1)]) 83 1 cw8 (tgs (show stc 99 = (8, 6) by decide) (by decide)) (mx7_copy ez16 l) (lw_V q1560 q1561 q1562 q160 q1563) (by decide +kernel) (by decide) rfl rfl (Nat.le_of_ble_eq_true rfl) dX0_comesOn_83 rfl ?_
          obtain ⟨g17, h⟩ := gd_e h
          rw [g17]
          refine gx_iload_n 86 0 dX0_comesOn_86 rfl ?_
          obtain ⟨s18, es18, h⟩ := bnd_e h
          refine gx_putN (t := 8) (k := 0) (x := x3_6) (ty := .int) 87 cw8 (by decide) (tgs (show stc 99 = (8, 6) by decide) (by decide)) (st0 (show stc 99 = (8, 6) by decide) (by decide)) (stm (show stc 99 = (8, 6) by decide) (by decide)) q474 same_f rfl (by decide +kernel) rfl rfl (congrArg J (ux_s _ _ _ _)) es18 dX0_comesOn_87 ?_
          refine gx_aload_n 90 2 dX0_comesOn_90 rfl ?_
          refine gx_get (t := 1) (k := 12) (v := .ref (ad x0 99)) 91 cw1 (by decide) (tgs (show stc 0 = (1, 0) by decide) (by decide)) q535 same_f (rf_ne (nes (show stc 99 = (8, 6) by decide) (by decide))) dX0_comesOn_91 ?_
          refine gx_iconst 94 dX0_comesOn_94 ?_
          obtain ⟨s19, es19, h⟩ := bnd_e h
          refine gx_putN (t := 8) (k := 2) (x := 0) (ty := .int) 95 cw8 (by decide) (tgs (show stc 99 = (8, 6) by decide) (by decide)) (st0 (show stc 99 = (8, 6) by decide) (by decide)) (stm (show stc 99 = (8, 6) by decide) (by decide)) q478 same_f rfl (by decide +kernel) rfl rfl (congrArg J (ux_s _ _ _ _)) es19 dX0_comesOn_95 ?_
          refine gx_aload_n 98 2 dX0_comesOn_98 rfl ?_
          refine gx_get (t := 1) (k := 12) (v := .ref (ad x0 99)) 99 cw1 (by decide) (tgs (show stc 0 = (1, 0) by decide) (by decide)) q535 same_f (rf_ne (nes (show stc 99 = (8, 6) by decide) (by decide))) dX0_comesOn_99 ?_
          refine gx_iconst 102 dX0_comesOn_102 ?_
          obtain ⟨s20, es20, h⟩ := bnd_e h
          refine gx_putN (t := 8) (k := 1) (x := 0) (ty := .int) 103 cw8 (by decide) (tgs (show stc 99 = (8, 6) by decide) (by decide)) (st0 (show stc 99 = (8, 6) by decide) (by decide)) (stm (show stc 99 = (8, 6) by decide) (by decide)) q476 same_f rfl (by decide +kernel) rfl rfl (congrArg J (ux_s _ _ _ _)) es20 dX0_comesOn_103 ?_
          refine gx_iconst 106 dX0_comesOn_106 ?_
          obtain ⟨x4_21, ex4_21, h⟩ := bnd_e h
          refine gx_istore 107 [(4, J x4_21), (3, J x3_6), (2, J x2_3), (0, .ref (ad x0 0)), (1, J a1)] dX0_comesOn_107 (by decide) ex4_21 rfl ?_
          refine gx_sub [3, 2, 0] rfl ?_
          refine wx0_comesOn_L109 (fun x2_35 s36 h => ?_) (fun s51 h => ?_) FU _ _ _ h
          · refine gx_iconst 161 dX0_comesOn_161 ?_
            obtain ⟨x4_37, ex4_37, h⟩ := bnd_e h
            refine gx_istore 162 [(4, J x4_37), (0, .ref (ad x0 0)), (2, J x2_35)] dX0_comesOn_162 (by decide) ex4_37 rfl ?_
            refine gx_sub [1, 2, 0] rfl ?_
            refine wx0_comesOn_L164 (fun s49 h => ?_) (fun s50 h => ?_) FU _ _ _ h
            · refine gx_iconst 201 dX0_comesOn_201 ?_
              exact gx_zret 202 dX0_comesOn_202 (by decide) (rt h)
            · refine gx_iconst 193 dX0_comesOn_193 ?_
              exact gx_zret 194 dX0_comesOn_194 (by decide) (rt h)
          · refine gx_iconst 130 dX0_comesOn_130 ?_
            exact gx_zret 131 dX0_comesOn_131 (by decide) (rt h)
        · replace h := if_f h c15
          refine gx_iconst 73 dX0_comesOn_73 ?_
          exact gx_zret 74 dX0_comesOn_74 (by decide) (rt h)
/-! VerbAtDusk.on -/
noncomputable def x0_on (s0 : XS) : Option (Int × XS) :=
  Option.bind (x0_taken s0) fun z1 =>
  Option.bind (x0_comesOn z1.1 z1.2) fun z2 =>
  if i32 z2.1 = 0 then
    Option.bind (x0_refuses 5 z2.2) fun z7 =>
    if i32 z7.1 < 0 then
      some (0, z7.2)
    else
      some (1, z7.2)
  else
    Option.bind (x7_copy 36 99 z2.2) fun z4 =>
    gd (z4.1 = 36) <|
    bnd (ux z4.2 0 19 0) fun s6 =>
    some (1, s6)
theorem mx0_on {x0 : Nat} {D : XD} {s0 : XS} {res : Int × XS} (h : x0_on s0 = some res) (l : Launch) : XMet0 l yX0_on cX0_on 1 (some .boolean) 5 true x0 D [.ref (ad x0 0)] s0 1 res := by
  refine XMet0.ofn [(0, .ref (ad x0 0))] "VerbAtDusk" "on" rfl rfl (plainFor_of_name (by decide)) (Nat.le_of_ble_eq_true rfl) rfl ?_
  unfold x0_on at h
  generalize nC s0 = cN
  generalize nS s0 = sN
  refine gx_aload_n 0 0 dX0_on_0 rfl ?_
  refine gx_aload_n 1 0 dX0_on_1 rfl ?_
  obtain ⟨z1, ez1, h⟩ := opt_e h
  refine gx_callV (As := []) (rest := [.ref (ad x0 0)]) (st' := [J z1.1, .ref (ad x0 0)]) 2 0 cw1 (tgs (show stc 0 = (1, 0) by decide) (by decide)) (mx0_taken ez1 l) (lw_V q617 q619 qs3 q147 q620) (by decide +kernel) (by decide) rfl rfl (Nat.le_of_ble_eq_true rfl) dX0_on_2 rfl ?_
  obtain ⟨z2, ez2, h⟩ := opt_e h
  refine gx_callV (As := [J z1.1]) (rest := []) (st' := [J z2.1]) 5 1 cw1 (tgs (show stc 0 = (1, 0) by decide) (by decide)) (mx0_comesOn ez2 l) (lw_V q1734 q1736 qs53 q147 q1737) (by decide +kernel) (by decide) rfl rfl (Nat.le_of_ble_eq_true rfl) dX0_on_5 rfl ?_
  refine gx_if_ne 8 25 dX0_on_8 (by decide) (fun c3 => ?_) (fun c3 => ?_)
  · replace h := if_f h c3
    refine gx_aload_n 25 0 dX0_on_25 rfl ?_
    refine gx_get (t := 1) (k := 11) (v := .ref (ad x0 36)) 26 cw1 (by decide) (tgs (show stc 0 = (1, 0) by decide) (by decide)) q534 same_f (rf_ne (nes (show stc 36 = (8, 6) by decide) (by decide))) dX0_on_26 ?_
    refine gx_aload_n 29 0 dX0_on_29 rfl ?_
    refine gx_get (t := 1) (k := 12) (v := .ref (ad x0 99)) 30 cw1 (by decide) (tgs (show stc 0 = (1, 0) by decide) (by decide)) q535 same_f (rf_ne (nes (show stc 99 = (8, 6) by decide) (by decide))) dX0_on_30 ?_
    obtain ⟨z4, ez4, h⟩ := opt_e h
    refine gx_callV (As := [.ref (ad x0 99)]) (rest := []) (st' := [.ref (ad x0 z4.1)]) 33 1 cw8 (tgs (show stc 36 = (8, 6) by decide) (by decide)) (mx7_copy ez4 l) (lw_V q1560 q1561 q1562 q160 q1563) (by decide +kernel) (by decide) rfl rfl (Nat.le_of_ble_eq_true rfl) dX0_on_33 rfl ?_
    obtain ⟨g5, h⟩ := gd_e h
    rw [g5]
    refine gx_pop 36 dX0_on_36 rfl ?_
    refine gx_aload_n 37 0 dX0_on_37 rfl ?_
    refine gx_iconst 38 dX0_on_38 ?_
    obtain ⟨s6, es6, h⟩ := bnd_e h
    refine gx_put (t := 1) (k := 19) (x := 0) (ty := .int) 39 cw1 (by decide) (tgs (show stc 0 = (1, 0) by decide) (by decide)) (st0 (show stc 0 = (1, 0) by decide) (by decide)) (stm (show stc 0 = (1, 0) by decide) (by decide)) q542 same_f rfl (by decide +kernel) rfl rfl (congrArg J (ux_s _ _ _ _)) es6 dX0_on_39 ?_
    refine gx_iconst 42 dX0_on_42 ?_
    exact gx_zret 43 dX0_on_43 (by decide) (rt h)
  · replace h := if_t h c3
    refine gx_aload_n 11 0 dX0_on_11 rfl ?_
    refine gx_iconst 12 dX0_on_12 ?_
    obtain ⟨z7, ez7, h⟩ := opt_e h
    refine gx_callV (As := [J 5]) (rest := []) (st' := [J z7.1]) 13 1 cw1 (tgs (show stc 0 = (1, 0) by decide) (by decide)) (mx0_refuses ez7 l) (lw_V q600 q602 qs1 q147 q603) (by decide +kernel) (by decide) rfl rfl (Nat.le_of_ble_eq_true rfl) dX0_on_13 rfl ?_
    refine gx_if_lt 16 23 dX0_on_16 (by decide) (fun c8 => ?_) (fun c8 => ?_)
    · replace h := if_t h c8
      refine gx_iconst 23 dX0_on_23 ?_
      exact gx_zret 24 dX0_on_24 (by decide) (rt h)
    · replace h := if_f h c8
      refine gx_iconst 19 dX0_on_19 ?_
      refine gx_goto 20 24 dX0_on_20 (by decide) ?_
      exact gx_zret 24 dX0_on_24 (by decide) (rt h)
/-! VerbAtDusk.isAhead -/
noncomputable def x0_isAhead (a1 : Int) (a2 : Int) (a3 : Int) (s0 : XS) : Option (Int × XS) :=
  Option.bind (x0_isCountry s0) fun z4 =>
  if i32 z4.1 = 0 then
    some (0, z4.2)
  else
    Option.bind (x0_is a1 a2 a3 z4.2) fun z6 =>
    if i32 z6.1 = 0 then
      some (0, z6.2)
    else
      if i32 999 < i32 ((z6.2 36 0) + a1) then
        some (0, z6.2)
      else
        some (1, z6.2)
theorem mx0_isAhead {x0 : Nat} {D : XD} {a1 : Int} {a2 : Int} {a3 : Int} {s0 : XS} {res : Int × XS} (h : x0_isAhead a1 a2 a3 s0 = some res) (l : Launch) : XMet0 l yX0_isAhead cX0_isAhead 4 (some .boolean) 2 true x0 D [.ref (ad x0 0), J a1, J a2, J a3] s0 1 res := by
  refine XMet0.ofn [(0, .ref (ad x0 0)), (1, J a1), (2, J a2), (3, J a3)] "VerbAtDusk" "isAhead" rfl rfl (plainFor_of_name (by decide)) (Nat.le_of_ble_eq_true rfl) rfl ?_
  unfold x0_isAhead at h
  generalize nC s0 = cN
  generalize nS s0 = sN
  refine gx_aload_n 0 0 dX0_isAhead_0 rfl ?_
  obtain ⟨z4, ez4, h⟩ := opt_e h
  refine gx_callV (As := []) (rest := []) (st' := [J z4.1]) 1 0 cw1 (tgs (show stc 0 = (1, 0) by decide) (by decide)) (mx0_isCountry ez4 l) (lw_V q1516 q1518 qs42 q147 q1519) (by decide +kernel) (by decide) rfl rfl (Nat.le_of_ble_eq_true rfl) dX0_isAhead_1 rfl ?_
  refine gx_if_eq 4 35 dX0_isAhead_4 (by decide) (fun c5 => ?_) (fun c5 => ?_)
  · replace h := if_t h c5
    refine gx_iconst 35 dX0_isAhead_35 ?_
    exact gx_zret 36 dX0_isAhead_36 (by decide) (rt h)
  · replace h := if_f h c5
    refine gx_iload_n 7 1 dX0_isAhead_7 rfl ?_
    refine gx_iload_n 8 2 dX0_isAhead_8 rfl ?_
    refine gx_iload_n 9 3 dX0_isAhead_9 rfl ?_
    obtain ⟨z6, ez6, h⟩ := opt_e h
    refine gx_callS (As := [J a1, J a2, J a3]) (rest := []) (st' := [J z6.1]) 10 3 (mx0_is ez6 l) (lw_S q1320 q748 q147 q749) (by decide +kernel) (by decide) rfl rfl (Nat.le_of_ble_eq_true rfl) dX0_isAhead_10 rfl ?_
    refine gx_if_eq 13 35 dX0_isAhead_13 (by decide) (fun c7 => ?_) (fun c7 => ?_)
    · replace h := if_t h c7
      refine gx_iconst 35 dX0_isAhead_35 ?_
      exact gx_zret 36 dX0_isAhead_36 (by decide) (rt h)
    · replace h := if_f h c7
      refine gx_aload_n 16 0 dX0_isAhead_16 rfl ?_
      refine gx_get (t := 1) (k := 11) (v := .ref (ad x0 36)) 17 cw1 (by decide) (tgs (show stc 0 = (1, 0) by decide) (by decide)) q534 same_f (rf_ne (nes (show stc 36 = (8, 6) by decide) (by decide))) dX0_isAhead_17 ?_
      refine gx_getN (t := 8) (k := 0) (v := J (z6.2 36 0)) 20 cw8 (by decide) (tgs (show stc 36 = (8, 6) by decide) (by decide)) q474 same_f rfl dX0_isAhead_20 ?_
      refine gx_iload_n 23 1 dX0_isAhead_23 rfl ?_
      refine gx_iadd 24 dX0_isAhead_24 ?_
      refine gx_sipush 25 dX0_isAhead_25 (by decide) ?_
      refine gx_icmp_gt 28 35 dX0_isAhead_28 (by decide) (fun c8 => ?_) (fun c8 => ?_)
      · replace h := if_t h c8
        refine gx_iconst 35 dX0_isAhead_35 ?_
        exact gx_zret 36 dX0_isAhead_36 (by decide) (rt h)
      · replace h := if_f h c8
        refine gx_iconst 31 dX0_isAhead_31 ?_
        refine gx_goto 32 36 dX0_isAhead_32 (by decide) ?_
        exact gx_zret 36 dX0_isAhead_36 (by decide) (rt h)
/-! VerbAtDusk.verb -/
noncomputable def x0_verb (a1 : Int) (a2 : Int) (s0 : XS) : Option (Int × XS) :=
  Option.bind (x0_isVerb a1 s0) fun z3 =>
  if i32 z3.1 = 0 then
    some ((-1), z3.2)
  else
    gd (¬ (z3.2 0 0) = -1) <|
    gd (tg true z3.2 (z3.2 0 0) = 2) <|
    gd (¬ (z3.2 (z3.2 0 0) 5) = -1) <|
    gd (tg true z3.2 (z3.2 (z3.2 0 0) 5) = 21) <|
    Option.bind (j2_get true (z3.2 (z3.2 0 0) 5) a1 z3.2) fun z8 =>
    gd (tg true z8.2 z8.1 = 10) <|
    bnd z8.1 fun x3_11 =>
    if i32 a2 = 0 then
      gd (tg true z8.2 x3_11 = 10) <|
      some ((z8.2 x3_11 1), z8.2)
    else
      if i32 a2 = i32 1 then
        gd (tg true z8.2 x3_11 = 10) <|
        some ((z8.2 x3_11 2), z8.2)
      else
        if i32 a2 = i32 2 then
          Option.bind (x0_has (z8.2 36 1) a1 z8.2) fun z15 =>
          if i32 z15.1 = 0 then
            some (0, z15.2)
          else
            some (1, z15.2)
        else
          some ((-1), z8.2)
theorem mx0_verb {x0 : Nat} {D : XD} {a1 : Int} {a2 : Int} {s0 : XS} {res : Int × XS} (h : x0_verb a1 a2 s0 = some res) (l : Launch) : XMet0 l yX0_verb cX0_verb 4 (some .int) 4 true x0 D [.ref (ad x0 0), J a1, J a2] s0 1 res := by
  refine XMet0.ofn [(0, .ref (ad x0 0)), (1, J a1), (2, J a2)] "VerbAtDusk" "verb" rfl rfl (plainFor_of_name (by decide)) (Nat.le_of_ble_eq_true rfl) rfl ?_
  unfold x0_verb at h
  generalize nC s0 = cN
  generalize nS s0 = sN
  refine gx_aload_n 0 0 dX0_verb_0 rfl ?_
  refine gx_iload_n 1 1 dX0_verb_1 rfl ?_
  obtain ⟨z3, ez3, h⟩ := opt_e h
  refine gx_callV (As := [J a1]) (rest := []) (st' := [J z3.1]) 2 1 cw1 (tgs (show stc 0 = (1, 0) by decide) (by decide)) (mx0_isVerb ez3 l) (lw_V q1493 q1495 qs41 q147 q1496) (by decide +kernel) (by decide) rfl rfl (Nat.le_of_ble_eq_true rfl) dX0_verb_2 rfl ?_
  refine gx_if_ne 5 10 dX0_verb_5 (by decide) (fun c4 => ?_) (fun c4 => ?_)
  · replace h := if_f h c4
    refine gx_aload_n 10 0 dX0_verb_10 rfl ?_
    obtain ⟨g5, h⟩ := gd_e h
    refine gx_get (t := 1) (k := 0) (v := .ref (ad x0 (z3.2 0 0))) 11 cw1 (by decide) (tgs (show stc 0 = (1, 0) by decide) (by decide)) q519 same_f (rf_ne g5) dX0_verb_11 ?_
    obtain ⟨g6, h⟩ := gd_e h
    obtain ⟨g7, h⟩ := gd_e h
    refine gx_getN (t := 2) (k := 5) (v := .ref (ad x0 (z3.2 (z3.2 0 0) 5))) 14 cw2 (by decide) g6 q247 same_f (rf_ne g7) dX0_verb_14 ?_
    refine gx_iload_n 17 1 dX0_verb_17 rfl ?_
    obtain ⟨g9, h⟩ := gd_e h
    obtain ⟨z8, ez8, h⟩ := opt_e h
    refine gx_callF (As := [J a1]) (rest := []) (st' := [.ref (ad x0 z8.1)]) 18 1 cw21 rfl g9  (mj2_get ez8 l) (lw_app (lw_in4 q1322 q863 q865 q151) (lw_meth q867)) (by decide) (by decide +kernel) (by decide) rfl rfl (Nat.le_of_ble_eq_true rfl) dX0_verb_18 rfl ?_
    obtain ⟨g10, h⟩ := gd_e h
    refine gx_castS 23 cw10 g10 q1497 dX0_verb_23 ?_
    obtain ⟨x3_11, ex3_11, h⟩ := bnd_e h
    refine gx_astore_nv 26 [(3, .ref (ad x0 x3_11)), (0, .ref (ad x0 0)), (1, J a1), (2, J a2)] dX0_verb_26 (by decide) ex3_11 rfl ?_
    refine gx_iload_n 27 3 dX0_verb_27 rfl ?_
    refine gx_if_ne 28 38 dX0_verb_28 (by decide) (fun c12 => ?_) (fun c12 => ?_)
    · replace h := if_f h c12
      refine gx_iload_n 38 3 dX0_verb_38 rfl ?_
      refine gx_iconst 39 dX0_verb_39 ?_
      refine gx_icmp_ne 40 50 dX0_verb_40 (by decide) (fun c13 => ?_) (fun c13 => ?_)
      · replace h := if_f h c13
        refine gx_iload_n 50 3 dX0_verb_50 rfl ?_
        refine gx_iconst 51 dX0_verb_51 ?_
        refine gx_icmp_ne 52 77 dX0_verb_52 (by decide) (fun c14 => ?_) (fun c14 => ?_)
        · replace h := if_f h c14
          refine gx_iconst 77 dX0_verb_77 ?_
          exact gx_iret 78 dX0_verb_78 (rt h)
        · replace h := if_t h c14
          refine gx_aload_n 55 1 dX0_verb_55 rfl ?_
          refine gx_get (t := 1) (k := 11) (v := .ref (ad x0 36)) 56 cw1 (by decide) (tgs (show stc 0 = (1, 0) by decide) (by decide)) q534 same_f (rf_ne (nes (show stc 36 = (8, 6) by decide) (by decide))) dX0_verb_56 ?_
          refine gx_getN (t := 8) (k := 1) (v := J (z8.2 36 1)) 59 cw8 (by decide) (tgs (show stc 36 = (8, 6) by decide) (by decide)) q476 same_f rfl dX0_verb_59 ?_
          refine gx_iload_n 62 2 dX0_verb_62 rfl ?_
          obtain ⟨z15, ez15, h⟩ := opt_e h
          refine gx_callS (As := [J (z8.2 36 1), J a1]) (rest := []) (st' := [J z15.1]) 63 2 (mx0_has ez15 l) (lw_S q1488 q1010 q147 q1011) (by decide +kernel) (by decide) rfl rfl (Nat.le_of_ble_eq_true rfl) dX0_verb_63 rfl ?_
          refine gx_if_eq 66 73 dX0_verb_66 (by decide) (fun c16 => ?_) (fun c16 => ?_)
          · replace h := if_t h c16
            refine gx_iconst 73 dX0_verb_73 ?_
            refine gx_goto 74 78 dX0_verb_74 (by decide) ?_
            exact gx_iret 78 dX0_verb_78 (rt h)
          · replace h := if_f h c16
            refine gx_iconst 69 dX0_verb_69 ?_
            refine gx_goto 70 78 dX0_verb_70 (by decide) ?_
            exact gx_iret 78 dX0_verb_78 (rt h)
      · replace h := if_t h c13
        refine gx_aload_n 43 0 dX0_verb_43 rfl ?_
        obtain ⟨g17, h⟩ := gd_e h
        refine gx_getN (t := 10) (k := 2) (v := J (z8.2 x3_11 2)) 44 cw10 (by decide) g17 q1001 same_f rfl dX0_verb_44 ?_
        refine gx_goto 47 78 dX0_verb_47 (by decide) ?_
        exact gx_iret 78 dX0_verb_78 (rt h)
    · replace h := if_t h c12
      refine gx_aload_n 31 0 dX0_verb_31 rfl ?_
      obtain ⟨g18, h⟩ := gd_e h
      refine gx_getN (t := 10) (k := 1) (v := J (z8.2 x3_11 1)) 32 cw10 (by decide) g18 q998 same_f rfl dX0_verb_32 ?_
      refine gx_goto 35 78 dX0_verb_35 (by decide) ?_
      exact gx_iret 78 dX0_verb_78 (rt h)
  · replace h := if_t h c4
    refine gx_iconst 8 dX0_verb_8 ?_
    exact gx_iret 9 dX0_verb_9 (rt h)
/-! VerbAtDusk.saying -/
noncomputable def x0_saying (a1 : Int) (a2 : Int) (s0 : XS) : Option (Int × XS) :=
  Option.bind (x0_isSaying a1 s0) fun z3 =>
  if i32 z3.1 = 0 then
    some ((-1), z3.2)
  else
    if i32 a2 = 0 then
      gd (ok 6 a1) <|
      some ((z3.2 37 (i32 a1)), z3.2)
    else
    if i32 a2 = 1 then
      gd (ok 6 a1) <|
      some ((z3.2 38 (i32 a1)), z3.2)
    else
    if i32 a2 = 2 then
      gd (ok 6 a1) <|
      some ((z3.2 39 (i32 a1)), z3.2)
    else
    if i32 a2 = 3 then
      Option.bind (x0_gets a1 z3.2) fun z12 =>
      some (z12.1, z12.2)
    else
    if i32 a2 = 4 then
      Option.bind (x5_by 36 z3.2) fun z14 =>
      gd (z14.1 = 14) <|
      Option.bind (x5_dark z14.2) fun z16 =>
      Option.bind (x0_has z16.1 a1 z16.2) fun z17 =>
      if i32 z17.1 = 0 then
        some (0, z17.2)
      else
        some (1, z17.2)
    else
      some ((-1), z3.2)
theorem mx0_saying {x0 : Nat} {D : XD} {a1 : Int} {a2 : Int} {s0 : XS} {res : Int × XS} (h : x0_saying a1 a2 s0 = some res) (l : Launch) : XMet0 l yX0_saying cX0_saying 3 (some .int) 712 true x0 D [.ref (ad x0 0), J a1, J a2] s0 1 res := by
  refine XMet0.ofn [(0, .ref (ad x0 0)), (1, J a1), (2, J a2)] "VerbAtDusk" "saying" rfl rfl (plainFor_of_name (by decide)) (Nat.le_of_ble_eq_true rfl) rfl ?_
  unfold x0_saying at h
  generalize nC s0 = cN
  generalize nS s0 = sN
  refine gx_aload_n 0 0 dX0_saying_0 rfl ?_
  refine gx_iload_n 1 1 dX0_saying_1 rfl ?_
  obtain ⟨z3, ez3, h⟩ := opt_e h
  refine gx_callV (As := [J a1]) (rest := []) (st' := [J z3.1]) 2 1 cw1 (tgs (show stc 0 = (1, 0) by decide) (by decide)) (mx0_isSaying ez3 l) (lw_V q1346 q1348 qs35 q147 q1349) (by decide +kernel) (by decide) rfl rfl (Nat.le_of_ble_eq_true rfl) dX0_saying_2 rfl ?_
  refine gx_if_ne 5 10 dX0_saying_5 (by decide) (fun c4 => ?_) (fun c4 => ?_)
  · replace h := if_f h c4
    refine gx_iload_n 10 2 dX0_saying_10 rfl ?_
    by_cases c5 : i32 a2 = 0
    · replace h := if_t h c5
      refine gx_tableIn 11 44 0 dX0_saying_11 c5 (by decide) (by decide) rfl (by decide) ?_
      refine gx_aload_n 44 0 dX0_saying_44 rfl ?_
      refine gx_get (t := 1) (k := 11) (v := .ref (ad x0 36)) 45 cw1 (by decide) (tgs (show stc 0 = (1, 0) by decide) (by decide)) q534 same_f (rf_ne (nes (show stc 36 = (8, 6) by decide) (by decide))) dX0_saying_45 ?_
      refine gx_getN (t := 8) (k := 3) (v := .ref (ad x0 37)) 48 cw8 (by decide) (tgs (show stc 36 = (8, 6) by decide) (by decide)) q481 same_f (rf_ne (nes (show stc 37 = (101, 6) by decide) (by decide))) dX0_saying_48 ?_
      refine gx_iload_n 51 1 dX0_saying_51 rfl ?_
      obtain ⟨g6, h⟩ := gd_e h
      refine gx_iald 52 (tgs (show stc 37 = (101, 6) by decide) (by decide)) (oks (show stc 37 = (101, 6) by decide) (by decide) g6) dX0_saying_52 ?_
      exact gx_iret 53 dX0_saying_53 (rt h)
    replace h := if_f h c5
    by_cases c7 : i32 a2 = 1
    · replace h := if_t h c7
      refine gx_tableIn 11 54 1 dX0_saying_11 c7 (by decide) (by decide) rfl (by decide) ?_
      refine gx_aload_n 54 0 dX0_saying_54 rfl ?_
      refine gx_get (t := 1) (k := 11) (v := .ref (ad x0 36)) 55 cw1 (by decide) (tgs (show stc 0 = (1, 0) by decide) (by decide)) q534 same_f (rf_ne (nes (show stc 36 = (8, 6) by decide) (by decide))) dX0_saying_55 ?_
      refine gx_getN (t := 8) (k := 4) (v := .ref (ad x0 38)) 58 cw8 (by decide) (tgs (show stc 36 = (8, 6) by decide) (by decide)) q484 same_f (rf_ne (nes (show stc 38 = (101, 6) by decide) (by decide))) dX0_saying_58 ?_
      refine gx_iload_n 61 1 dX0_saying_61 rfl ?_
      obtain ⟨g8, h⟩ := gd_e h
      refine gx_iald 62 (tgs (show stc 38 = (101, 6) by decide) (by decide)) (oks (show stc 38 = (101, 6) by decide) (by decide) g8) dX0_saying_62 ?_
      exact gx_iret 63 dX0_saying_63 (rt h)
    replace h := if_f h c7
    by_cases c9 : i32 a2 = 2
    · replace h := if_t h c9
      refine gx_tableIn 11 64 2 dX0_saying_11 c9 (by decide) (by decide) rfl (by decide) ?_
      refine gx_aload_n 64 0 dX0_saying_64 rfl ?_
      refine gx_get (t := 1) (k := 11) (v := .ref (ad x0 36)) 65 cw1 (by decide) (tgs (show stc 0 = (1, 0) by decide) (by decide)) q534 same_f (rf_ne (nes (show stc 36 = (8, 6) by decide) (by decide))) dX0_saying_65 ?_
      refine gx_getN (t := 8) (k := 5) (v := .ref (ad x0 39)) 68 cw8 (by decide) (tgs (show stc 36 = (8, 6) by decide) (by decide)) q486 same_f (rf_ne (nes (show stc 39 = (101, 6) by decide) (by decide))) dX0_saying_68 ?_
      refine gx_iload_n 71 1 dX0_saying_71 rfl ?_
      obtain ⟨g10, h⟩ := gd_e h
      refine gx_iald 72 (tgs (show stc 39 = (101, 6) by decide) (by decide)) (oks (show stc 39 = (101, 6) by decide) (by decide) g10) dX0_saying_72 ?_
      exact gx_iret 73 dX0_saying_73 (rt h)
    replace h := if_f h c9
    by_cases c11 : i32 a2 = 3
    · replace h := if_t h c11
      refine gx_tableIn 11 74 3 dX0_saying_11 c11 (by decide) (by decide) rfl (by decide) ?_
      refine gx_aload_n 74 0 dX0_saying_74 rfl ?_
      refine gx_iload_n 75 1 dX0_saying_75 rfl ?_
      obtain ⟨z12, ez12, h⟩ := opt_e h
      refine gx_callV (As := [J a1]) (rest := []) (st' := [J z12.1]) 76 1 cw1 (tgs (show stc 0 = (1, 0) by decide) (by decide)) (mx0_gets ez12 l) (lw_V q1350 q1352 qs36 q147 q1353) (by decide +kernel) (by decide) rfl rfl (Nat.le_of_ble_eq_true rfl) dX0_saying_76 rfl ?_
      exact gx_iret 79 dX0_saying_79 (rt h)
    replace h := if_f h c11
    by_cases c13 : i32 a2 = 4
    · replace h := if_t h c13
      refine gx_tableIn 11 80 4 dX0_saying_11 c13 (by decide) (by decide) rfl (by decide) ?_
      refine gx_aload_n 80 0 dX0_saying_80 rfl ?_
      refine gx_get (t := 1) (k := 9) (v := .ref (ad x0 14)) 81 cw1 (by decide) (tgs (show stc 0 = (1, 0) by decide) (by decide)) q530 same_f (rf_ne (nes (show stc 14 = (6, 0) by decide) (by decide))) dX0_saying_81 ?_
      refine gx_aload_n 84 0 dX0_saying_84 rfl ?_
      refine gx_get (t := 1) (k := 11) (v := .ref (ad x0 36)) 85 cw1 (by decide) (tgs (show stc 0 = (1, 0) by decide) (by decide)) q534 same_f (rf_ne (nes (show stc 36 = (8, 6) by decide) (by decide))) dX0_saying_85 ?_
      obtain ⟨z14, ez14, h⟩ := opt_e h
      refine gx_callV (As := [.ref (ad x0 36)]) (rest := []) (st' := [.ref (ad x0 z14.1)]) 88 1 cw6 (tgs (show stc 14 = (6, 0) by decide) (by decide)) (mx5_by ez14 l) (lw_V q1470 q1471 q1472 q158 q1473) (by decide +kernel) (by decide) rfl rfl (Nat.le_of_ble_eq_true rfl) dX0_saying_88 rfl ?_
      obtain ⟨g15, h⟩ := gd_e h
      rw [g15]
      obtain ⟨z16, ez16, h⟩ := opt_e h
      refine gx_callV (As := []) (rest := []) (st' := [J z16.1]) 91 0 cw6 (tgs (show stc 14 = (6, 0) by decide) (by decide)) (mx5_dark ez16 l) (lw_V q1484 q1485 q1486 q158 q1487) (by decide +kernel) (by decide) rfl rfl (Nat.le_of_ble_eq_true rfl) dX0_saying_91 rfl ?_
      refine gx_iload_n 94 1 dX0_saying_94 rfl ?_
      obtain ⟨z17, ez17, h⟩ := opt_e h
      refine gx_callS (As := [J z16.1, J a1]) (rest := []) (st' := [J z17.1]) 95 2 (mx0_has ez17 l) (lw_S q1488 q1010 q147 q1011) (by decide +kernel) (by decide) rfl rfl (Nat.le_of_ble_eq_true rfl) dX0_saying_95 rfl ?_
      refine gx_if_eq 98 105 dX0_saying_98 (by decide) (fun c18 => ?_) (fun c18 => ?_)
      · replace h := if_t h c18
        refine gx_iconst 105 dX0_saying_105 ?_
        exact gx_iret 106 dX0_saying_106 (rt h)
      · replace h := if_f h c18
        refine gx_iconst 101 dX0_saying_101 ?_
        refine gx_goto 102 106 dX0_saying_102 (by decide) ?_
        exact gx_iret 106 dX0_saying_106 (rt h)
    replace h := if_f h c13
    refine gx_tableOut 11 107 dX0_saying_11 (by omega) (by decide) ?_
    refine gx_iconst 107 dX0_saying_107 ?_
    exact gx_iret 108 dX0_saying_108 (rt h)
  · replace h := if_t h c4
    refine gx_iconst 8 dX0_saying_8 ?_
    exact gx_iret 9 dX0_saying_9 (rt h)
/-! VerbAtDusk.pair -/
noncomputable def x0_pair (a1 : Int) (a2 : Int) (a3 : Int) (s0 : XS) : Option (Int × XS) :=
  Option.bind (x0_isSaying a1 s0) fun z4 =>
  if i32 z4.1 = 0 then
    some ((-1), z4.2)
  else
    Option.bind (x0_isVerb a2 z4.2) fun z6 =>
    if i32 z6.1 = 0 then
      some ((-1), z6.2)
    else
      if i32 a3 = 0 then
        Option.bind (x7_can 36 a1 a2 z6.2) fun z12 =>
        if i32 z12.1 = 0 then
          some (0, z12.2)
        else
          some (1, z12.2)
      else
        if i32 a3 = i32 1 then
          gd (ok 6 a1) <|
          gd (ok 7 a2) <|
          some ((z6.2 (41 + 1 + i32 a1) (i32 a2)), z6.2)
        else
          some ((-1), z6.2)
theorem mx0_pair {x0 : Nat} {D : XD} {a1 : Int} {a2 : Int} {a3 : Int} {s0 : XS} {res : Int × XS} (h : x0_pair a1 a2 a3 s0 = some res) (l : Launch) : XMet0 l yX0_pair cX0_pair 4 (some .int) 710 true x0 D [.ref (ad x0 0), J a1, J a2, J a3] s0 1 res := by
  refine XMet0.ofn [(0, .ref (ad x0 0)), (1, J a1), (2, J a2), (3, J a3)] "VerbAtDusk" "pair" rfl rfl (plainFor_of_name (by decide)) (Nat.le_of_ble_eq_true rfl) rfl ?_
  unfold x0_pair at h
  generalize nC s0 = cN
  generalize nS s0 = sN
  refine gx_aload_n 0 0 dX0_pair_0 rfl ?_
  refine gx_iload_n 1 1 dX0_pair_1 rfl ?_
  obtain ⟨z4, ez4, h⟩ := opt_e h
  refine gx_callV (As := [J a1]) (rest := []) (st' := [J z4.1]) 2 1 cw1 (tgs (show stc 0 = (1, 0) by decide) (by decide)) (mx0_isSaying ez4 l) (lw_V q1346 q1348 qs35 q147 q1349) (by decide +kernel) (by decide) rfl rfl (Nat.le_of_ble_eq_true rfl) dX0_pair_2 rfl ?_
  refine gx_if_eq 5 16 dX0_pair_5 (by decide) (fun c5 => ?_) (fun c5 => ?_)
  · replace h := if_t h c5
    refine gx_iconst 16 dX0_pair_16 ?_
    exact gx_iret 17 dX0_pair_17 (rt h)
  · replace h := if_f h c5
    refine gx_aload_n 8 0 dX0_pair_8 rfl ?_
    refine gx_iload_n 9 2 dX0_pair_9 rfl ?_
    obtain ⟨z6, ez6, h⟩ := opt_e h
    refine gx_callV (As := [J a2]) (rest := []) (st' := [J z6.1]) 10 1 cw1 (tgs (show stc 0 = (1, 0) by decide) (by decide)) (mx0_isVerb ez6 l) (lw_V q1493 q1495 qs41 q147 q1496) (by decide +kernel) (by decide) rfl rfl (Nat.le_of_ble_eq_true rfl) dX0_pair_10 rfl ?_
    refine gx_if_ne 13 18 dX0_pair_13 (by decide) (fun c7 => ?_) (fun c7 => ?_)
    · replace h := if_f h c7
      refine gx_iload_n 18 3 dX0_pair_18 rfl ?_
      refine gx_if_ne 19 42 dX0_pair_19 (by decide) (fun c8 => ?_) (fun c8 => ?_)
      · replace h := if_f h c8
        refine gx_iload_n 42 3 dX0_pair_42 rfl ?_
        refine gx_iconst 43 dX0_pair_43 ?_
        refine gx_icmp_ne 44 61 dX0_pair_44 (by decide) (fun c9 => ?_) (fun c9 => ?_)
        · replace h := if_f h c9
          refine gx_iconst 61 dX0_pair_61 ?_
          exact gx_iret 62 dX0_pair_62 (rt h)
        · replace h := if_t h c9
          refine gx_aload_n 47 0 dX0_pair_47 rfl ?_
          refine gx_get (t := 1) (k := 11) (v := .ref (ad x0 36)) 48 cw1 (by decide) (tgs (show stc 0 = (1, 0) by decide) (by decide)) q534 same_f (rf_ne (nes (show stc 36 = (8, 6) by decide) (by decide))) dX0_pair_48 ?_
          refine gx_getN (t := 8) (k := 7) (v := .ref (ad x0 41)) 51 cw8 (by decide) (tgs (show stc 36 = (8, 6) by decide) (by decide)) q490 same_f (rf_ne (nes (show stc 41 = (121, 6) by decide) (by decide))) dX0_pair_51 ?_
          refine gx_iload_n 54 1 dX0_pair_54 rfl ?_
          obtain ⟨g10, h⟩ := gd_e h
          refine gx_aald (t := 121) (ty := (.array .int)) (r := (41 + 1 + i32 a1)) 55 (by decide) rfl (by decide) (tgs (show stc 41 = (121, 6) by decide) (by decide)) (oks (show stc 41 = (121, 6) by decide) (by decide) g10) rfl (nes (st_g (ce := 36) (by decide) g10) (by decide)) dX0_pair_55 ?_
          refine gx_iload_n 56 2 dX0_pair_56 rfl ?_
          obtain ⟨g11, h⟩ := gd_e h
          refine gx_iald 57 (tgs (st_g (ce := 36) (by decide) g10) (by decide)) (oks (st_g (ce := 36) (by decide) g10) (by decide) g11) dX0_pair_57 ?_
          refine gx_goto 58 62 dX0_pair_58 (by decide) ?_
          exact gx_iret 62 dX0_pair_62 (rt h)
      · replace h := if_t h c8
        refine gx_aload_n 22 0 dX0_pair_22 rfl ?_
        refine gx_get (t := 1) (k := 11) (v := .ref (ad x0 36)) 23 cw1 (by decide) (tgs (show stc 0 = (1, 0) by decide) (by decide)) q534 same_f (rf_ne (nes (show stc 36 = (8, 6) by decide) (by decide))) dX0_pair_23 ?_
        refine gx_iload_n 26 1 dX0_pair_26 rfl ?_
        refine gx_iload_n 27 2 dX0_pair_27 rfl ?_
        obtain ⟨z12, ez12, h⟩ := opt_e h
        refine gx_callV (As := [J a1, J a2]) (rest := []) (st' := [J z12.1]) 28 2 cw8 (tgs (show stc 36 = (8, 6) by decide) (by decide)) (mx7_can ez12 l) (lw_V q1502 q1361 q1362 q160 q1363) (by decide +kernel) (by decide) rfl rfl (Nat.le_of_ble_eq_true rfl) dX0_pair_28 rfl ?_
        refine gx_if_eq 31 38 dX0_pair_31 (by decide) (fun c13 => ?_) (fun c13 => ?_)
        · replace h := if_t h c13
          refine gx_iconst 38 dX0_pair_38 ?_
          refine gx_goto 39 62 dX0_pair_39 (by decide) ?_
          exact gx_iret 62 dX0_pair_62 (rt h)
        · replace h := if_f h c13
          refine gx_iconst 34 dX0_pair_34 ?_
          refine gx_goto 35 62 dX0_pair_35 (by decide) ?_
          exact gx_iret 62 dX0_pair_62 (rt h)
    · replace h := if_t h c7
      refine gx_iconst 16 dX0_pair_16 ?_
      exact gx_iret 17 dX0_pair_17 (rt h)
/-! VerbAtDusk.well -/
noncomputable def x0_well (a1 : Int) (a2 : Int) (s0 : XS) : Option (Int × XS) :=
  Option.bind (x0_isSaying a1 s0) fun z3 =>
  if i32 z3.1 = 0 then
    some ((-1000000000000000), z3.2)
  else
    Option.bind (x0_isVerb a2 z3.2) fun z5 =>
    if i32 z5.1 = 0 then
      some ((-1000000000000000), z5.2)
    else
      Option.bind (x7_well (x_at 64) 36 a1 a2 z5.2) fun z7 =>
      some (z7.1, z7.2)
theorem mx0_well {x0 : Nat} {D : XD} {a1 : Int} {a2 : Int} {s0 : XS} {res : Int × XS} (h : x0_well a1 a2 s0 = some res) (l : Launch) : XMet0 l yX0_well cX0_well 3 (some .long) 457 true x0 D [.ref (ad x0 0), J a1, J a2] s0 2 res := by
  refine XMet0.ofn [(0, .ref (ad x0 0)), (1, J a1), (2, J a2)] "VerbAtDusk" "well" rfl rfl (plainFor_of_name (by decide)) (Nat.le_of_ble_eq_true rfl) rfl ?_
  unfold x0_well at h
  generalize nC s0 = cN
  generalize nS s0 = sN
  refine gx_aload_n 0 0 dX0_well_0 rfl ?_
  refine gx_iload_n 1 1 dX0_well_1 rfl ?_
  obtain ⟨z3, ez3, h⟩ := opt_e h
  refine gx_callV (As := [J a1]) (rest := []) (st' := [J z3.1]) 2 1 cw1 (tgs (show stc 0 = (1, 0) by decide) (by decide)) (mx0_isSaying ez3 l) (lw_V q1346 q1348 qs35 q147 q1349) (by decide +kernel) (by decide) rfl rfl (Nat.le_of_ble_eq_true rfl) dX0_well_2 rfl ?_
  refine gx_if_eq 5 28 dX0_well_5 (by decide) (fun c4 => ?_) (fun c4 => ?_)
  · replace h := if_t h c4
    refine gx_ldc2 (v := -1000000000000000) 28 dX0_well_28 q1507 (by decide) ?_
    exact gx_lret 31 dX0_well_31 (rt h)
  · replace h := if_f h c4
    refine gx_aload_n 8 0 dX0_well_8 rfl ?_
    refine gx_iload_n 9 2 dX0_well_9 rfl ?_
    obtain ⟨z5, ez5, h⟩ := opt_e h
    refine gx_callV (As := [J a2]) (rest := []) (st' := [J z5.1]) 10 1 cw1 (tgs (show stc 0 = (1, 0) by decide) (by decide)) (mx0_isVerb ez5 l) (lw_V q1493 q1495 qs41 q147 q1496) (by decide +kernel) (by decide) rfl rfl (Nat.le_of_ble_eq_true rfl) dX0_well_10 rfl ?_
    refine gx_if_eq 13 28 dX0_well_13 (by decide) (fun c6 => ?_) (fun c6 => ?_)
    · replace h := if_t h c6
      refine gx_ldc2 (v := -1000000000000000) 28 dX0_well_28 q1507 (by decide) ?_
      exact gx_lret 31 dX0_well_31 (rt h)
    · replace h := if_f h c6
      refine gx_aload_n 16 0 dX0_well_16 rfl ?_
      refine gx_get (t := 1) (k := 11) (v := .ref (ad x0 36)) 17 cw1 (by decide) (tgs (show stc 0 = (1, 0) by decide) (by decide)) q534 same_f (rf_ne (nes (show stc 36 = (8, 6) by decide) (by decide))) dX0_well_17 ?_
      refine gx_iload_n 20 1 dX0_well_20 rfl ?_
      refine gx_iload_n 21 2 dX0_well_21 rfl ?_
      obtain ⟨z7, ez7, h⟩ := opt_e h
      refine gx_callV (As := [J a1, J a2]) (rest := []) (st' := [Lg z7.1]) 22 2 cw8 (tgs (show stc 36 = (8, 6) by decide) (by decide)) (mx7_well (mx_at_n (l := l) 64) ez7) (lw_V q1425 q1426 q1427 q160 q1428) (by decide +kernel) (by decide) rfl rfl (Nat.le_of_ble_eq_true rfl) dX0_well_22 rfl ?_
      refine gx_goto 25 31 dX0_well_25 (by decide) ?_
      exact gx_lret 31 dX0_well_31 (rt h)
/-! VerbAtDusk.kept -/
noncomputable def x0_kept (a1 : Int) (a2 : Int) (s0 : XS) : Option (Int × XS) :=
  Option.bind (x0_is a1 0 ((s0 36 2) - 1) s0) fun z3 =>
  if i32 z3.1 = 0 then
    some ((-1), z3.2)
  else
    Option.bind (x0_is a2 0 2 z3.2) fun z5 =>
    if i32 z5.1 = 0 then
      some ((-1), z5.2)
    else
      gd (ok 50 a1) <|
      gd (¬ (z5.2 48 (i32 a1)) = -1) <|
      gd (tg true z5.2 (z5.2 48 (i32 a1)) = 101) <|
      gd (ok (ln true z5.2 (z5.2 48 (i32 a1))) a2) <|
      some ((z5.2 (z5.2 48 (i32 a1)) (i32 a2)), z5.2)
theorem mx0_kept {x0 : Nat} {D : XD} {a1 : Int} {a2 : Int} {s0 : XS} {res : Int × XS} (h : x0_kept a1 a2 s0 = some res) (l : Launch) : XMet0 l yX0_kept cX0_kept 3 (some .int) 2 true x0 D [.ref (ad x0 0), J a1, J a2] s0 1 res := by
  refine XMet0.ofn [(0, .ref (ad x0 0)), (1, J a1), (2, J a2)] "VerbAtDusk" "kept" rfl rfl (plainFor_of_name (by decide)) (Nat.le_of_ble_eq_true rfl) rfl ?_
  unfold x0_kept at h
  generalize nC s0 = cN
  generalize nS s0 = sN
  refine gx_iload_n 0 1 dX0_kept_0 rfl ?_
  refine gx_iconst 1 dX0_kept_1 ?_
  refine gx_aload_n 2 0 dX0_kept_2 rfl ?_
  refine gx_get (t := 1) (k := 11) (v := .ref (ad x0 36)) 3 cw1 (by decide) (tgs (show stc 0 = (1, 0) by decide) (by decide)) q534 same_f (rf_ne (nes (show stc 36 = (8, 6) by decide) (by decide))) dX0_kept_3 ?_
  refine gx_getN (t := 8) (k := 2) (v := J (s0 36 2)) 6 cw8 (by decide) (tgs (show stc 36 = (8, 6) by decide) (by decide)) q478 same_f rfl dX0_kept_6 ?_
  refine gx_iconst 9 dX0_kept_9 ?_
  refine gx_isub 10 dX0_kept_10 ?_
  obtain ⟨z3, ez3, h⟩ := opt_e h
  refine gx_callS (As := [J a1, J 0, J ((s0 36 2) - 1)]) (rest := []) (st' := [J z3.1]) 11 3 (mx0_is ez3 l) (lw_S q1320 q748 q147 q749) (by decide +kernel) (by decide) rfl rfl (Nat.le_of_ble_eq_true rfl) dX0_kept_11 rfl ?_
  refine gx_if_eq 14 40 dX0_kept_14 (by decide) (fun c4 => ?_) (fun c4 => ?_)
  · replace h := if_t h c4
    refine gx_iconst 40 dX0_kept_40 ?_
    exact gx_iret 41 dX0_kept_41 (rt h)
  · replace h := if_f h c4
    refine gx_iload_n 17 2 dX0_kept_17 rfl ?_
    refine gx_iconst 18 dX0_kept_18 ?_
    refine gx_iconst 19 dX0_kept_19 ?_
    obtain ⟨z5, ez5, h⟩ := opt_e h
    refine gx_callS (As := [J a2, J 0, J 2]) (rest := []) (st' := [J z5.1]) 20 3 (mx0_is ez5 l) (lw_S q1320 q748 q147 q749) (by decide +kernel) (by decide) rfl rfl (Nat.le_of_ble_eq_true rfl) dX0_kept_20 rfl ?_
    refine gx_if_eq 23 40 dX0_kept_23 (by decide) (fun c6 => ?_) (fun c6 => ?_)
    · replace h := if_t h c6
      refine gx_iconst 40 dX0_kept_40 ?_
      exact gx_iret 41 dX0_kept_41 (rt h)
    · replace h := if_f h c6
      refine gx_aload_n 26 0 dX0_kept_26 rfl ?_
      refine gx_get (t := 1) (k := 11) (v := .ref (ad x0 36)) 27 cw1 (by decide) (tgs (show stc 0 = (1, 0) by decide) (by decide)) q534 same_f (rf_ne (nes (show stc 36 = (8, 6) by decide) (by decide))) dX0_kept_27 ?_
      refine gx_getN (t := 8) (k := 8) (v := .ref (ad x0 48)) 30 cw8 (by decide) (tgs (show stc 36 = (8, 6) by decide) (by decide)) q492 same_f (rf_ne (nes (show stc 48 = (111, 50) by decide) (by decide))) dX0_kept_30 ?_
      refine gx_iload_n 33 1 dX0_kept_33 rfl ?_
      obtain ⟨g7, h⟩ := gd_e h
      obtain ⟨g8, h⟩ := gd_e h
      refine gx_aald (t := 111) (ty := (.array .int)) (r := (z5.2 48 (i32 a1))) 34 (by decide) rfl (by decide) (tgs (show stc 48 = (111, 50) by decide) (by decide)) (oks (show stc 48 = (111, 50) by decide) (by decide) g7) rfl g8 dX0_kept_34 ?_
      refine gx_iload_n 35 2 dX0_kept_35 rfl ?_
      obtain ⟨g9, h⟩ := gd_e h
      obtain ⟨g10, h⟩ := gd_e h
      refine gx_iald 36 g9 g10 dX0_kept_36 ?_
      refine gx_goto 37 41 dX0_kept_37 (by decide) ?_
      exact gx_iret 41 dX0_kept_41 (rt h)
/-! VerbAtDusk.best -/
noncomputable def x0_best (s0 : XS) : Option (Int × XS) :=
  Option.bind (x0_isCountry s0) fun z1 =>
  if i32 z1.1 = 0 then
    some ((-1000000000000000), z1.2)
  else
    Option.bind (x6_by 36 z1.2) fun z3 =>
    gd (z3.1 = 19) <|
    if i32 (z3.2 19 5) = 0 then
      some ((-1000000000000000), z3.2)
    else
      some ((z3.2 19 6), z3.2)
theorem mx0_best {x0 : Nat} {D : XD} {s0 : XS} {res : Int × XS} (h : x0_best s0 = some res) (l : Launch) : XMet0 l yX0_best cX0_best 1 (some .long) 711 true x0 D [.ref (ad x0 0)] s0 2 res := by
  refine XMet0.ofn [(0, .ref (ad x0 0))] "VerbAtDusk" "best" rfl rfl (plainFor_of_name (by decide)) (Nat.le_of_ble_eq_true rfl) rfl ?_
  unfold x0_best at h
  generalize nC s0 = cN
  generalize nS s0 = sN
  refine gx_aload_n 0 0 dX0_best_0 rfl ?_
  obtain ⟨z1, ez1, h⟩ := opt_e h
  refine gx_callV (As := []) (rest := []) (st' := [J z1.1]) 1 0 cw1 (tgs (show stc 0 = (1, 0) by decide) (by decide)) (mx0_isCountry ez1 l) (lw_V q1516 q1518 qs42 q147 q1519) (by decide +kernel) (by decide) rfl rfl (Nat.le_of_ble_eq_true rfl) dX0_best_1 rfl ?_
  refine gx_if_eq 4 34 dX0_best_4 (by decide) (fun c2 => ?_) (fun c2 => ?_)
  · replace h := if_t h c2
    refine gx_ldc2 (v := -1000000000000000) 34 dX0_best_34 q1507 (by decide) ?_
    exact gx_lret 37 dX0_best_37 (rt h)
  · replace h := if_f h c2
    refine gx_aload_n 7 0 dX0_best_7 rfl ?_
    refine gx_get (t := 1) (k := 10) (v := .ref (ad x0 19)) 8 cw1 (by decide) (tgs (show stc 0 = (1, 0) by decide) (by decide)) q532 same_f (rf_ne (nes (show stc 19 = (7, 0) by decide) (by decide))) dX0_best_8 ?_
    refine gx_aload_n 11 0 dX0_best_11 rfl ?_
    refine gx_get (t := 1) (k := 11) (v := .ref (ad x0 36)) 12 cw1 (by decide) (tgs (show stc 0 = (1, 0) by decide) (by decide)) q534 same_f (rf_ne (nes (show stc 36 = (8, 6) by decide) (by decide))) dX0_best_12 ?_
    obtain ⟨z3, ez3, h⟩ := opt_e h
    refine gx_callV (As := [.ref (ad x0 36)]) (rest := []) (st' := [.ref (ad x0 z3.1)]) 15 1 cw7 (tgs (show stc 19 = (7, 0) by decide) (by decide)) (mx6_by ez3 l) (lw_V q1354 q1355 q1356 q159 q1357) (by decide +kernel) (by decide) rfl rfl (Nat.le_of_ble_eq_true rfl) dX0_best_15 rfl ?_
    obtain ⟨g4, h⟩ := gd_e h
    rw [g4]
    refine gx_getN (t := 7) (k := 5) (v := J (z3.2 19 5)) 18 cw7 (by decide) (tgs (show stc 19 = (7, 0) by decide) (by decide)) q439 same_f rfl dX0_best_18 ?_
    refine gx_if_eq 21 34 dX0_best_21 (by decide) (fun c5 => ?_) (fun c5 => ?_)
    · replace h := if_t h c5
      refine gx_ldc2 (v := -1000000000000000) 34 dX0_best_34 q1507 (by decide) ?_
      exact gx_lret 37 dX0_best_37 (rt h)
    · replace h := if_f h c5
      refine gx_aload_n 24 0 dX0_best_24 rfl ?_
      refine gx_get (t := 1) (k := 10) (v := .ref (ad x0 19)) 25 cw1 (by decide) (tgs (show stc 0 = (1, 0) by decide) (by decide)) q532 same_f (rf_ne (nes (show stc 19 = (7, 0) by decide) (by decide))) dX0_best_25 ?_
      refine gx_getN (t := 7) (k := 6) (v := Lg (z3.2 19 6)) 28 cw7 (by decide) (tgs (show stc 19 = (7, 0) by decide) (by decide)) q441 same_f rfl dX0_best_28 ?_
      refine gx_goto 31 37 dX0_best_31 (by decide) ?_
      exact gx_lret 37 dX0_best_37 (rt h)
/-! VerbAtDusk.round -/
noncomputable def x0_round (a1 : Int) (s0 : XS) : Option (Int × XS) :=
  Option.bind (x0_isCountry s0) fun z2 =>
  if i32 z2.1 = 0 then
    some ((-1), z2.2)
  else
    bnd (fun (x1_4 : Int) (s5 : XS) =>
        Option.bind (x5_by 36 s5) fun z6 =>
        gd (z6.1 = 14) <|
        if i32 x1_4 = i32 (-1) then
          some ((z6.2 14 4), z6.2)
        else
          gd (ok 6 x1_4) <|
          some ((z6.2 15 (i32 x1_4)), z6.2)) fun j10 =>
    if i32 a1 = i32 (-1) then
      j10 a1 z2.2
    else
      Option.bind (x0_isSaying a1 z2.2) fun z12 =>
      if i32 z12.1 = 0 then
        some ((-1), z12.2)
      else
        j10 a1 z12.2
theorem mx0_round {x0 : Nat} {D : XD} {a1 : Int} {s0 : XS} {res : Int × XS} (h : x0_round a1 s0 = some res) (l : Launch) : XMet0 l yX0_round cX0_round 2 (some .int) 29 true x0 D [.ref (ad x0 0), J a1] s0 1 res := by
  refine XMet0.ofn [(0, .ref (ad x0 0)), (1, J a1)] "VerbAtDusk" "round" rfl rfl (plainFor_of_name (by decide)) (Nat.le_of_ble_eq_true rfl) rfl ?_
  unfold x0_round at h
  generalize nC s0 = cN
  generalize nS s0 = sN
  refine gx_aload_n 0 0 dX0_round_0 rfl ?_
  obtain ⟨z2, ez2, h⟩ := opt_e h
  refine gx_callV (As := []) (rest := []) (st' := [J z2.1]) 1 0 cw1 (tgs (show stc 0 = (1, 0) by decide) (by decide)) (mx0_isCountry ez2 l) (lw_V q1516 q1518 qs42 q147 q1519) (by decide +kernel) (by decide) rfl rfl (Nat.le_of_ble_eq_true rfl) dX0_round_1 rfl ?_
  refine gx_if_eq 4 20 dX0_round_4 (by decide) (fun c3 => ?_) (fun c3 => ?_)
  · replace h := if_t h c3
    refine gx_iconst 20 dX0_round_20 ?_
    exact gx_iret 21 dX0_round_21 (rt h)
  · replace h := if_f h c3
    refine gx_iload_n 7 1 dX0_round_7 rfl ?_
    refine gx_iconst 8 dX0_round_8 ?_
    obtain ⟨j10, ej10, h⟩ := bnd_e h
    have hj10 : ∀ (x1_4 : Int) (s5 : XS), j10 x1_4 s5 = some res → GX l cX0_round "VerbAtDusk" 2 (some .int) "round" [] x0 D true 1 29 cN sN (0, res) s5 22 [(0, .ref (ad x0 0)), (1, J x1_4)] [] := by
      clear h
      intro x1_4 s5 h
      subst ej10
      refine gx_aload_n 22 0 dX0_round_22 rfl ?_
      refine gx_get (t := 1) (k := 9) (v := .ref (ad x0 14)) 23 cw1 (by decide) (tgs (show stc 0 = (1, 0) by decide) (by decide)) q530 same_f (rf_ne (nes (show stc 14 = (6, 0) by decide) (by decide))) dX0_round_23 ?_
      refine gx_aload_n 26 0 dX0_round_26 rfl ?_
      refine gx_get (t := 1) (k := 11) (v := .ref (ad x0 36)) 27 cw1 (by decide) (tgs (show stc 0 = (1, 0) by decide) (by decide)) q534 same_f (rf_ne (nes (show stc 36 = (8, 6) by decide) (by decide))) dX0_round_27 ?_
      obtain ⟨z6, ez6, h⟩ := opt_e h
      refine gx_callV (As := [.ref (ad x0 36)]) (rest := []) (st' := [.ref (ad x0 z6.1)]) 30 1 cw6 (tgs (show stc 14 = (6, 0) by decide) (by decide)) (mx5_by ez6 l) (lw_V q1470 q1471 q1472 q158 q1473) (by decide +kernel) (by decide) rfl rfl (Nat.le_of_ble_eq_true rfl) dX0_round_30 rfl ?_
      obtain ⟨g7, h⟩ := gd_e h
      rw [g7]
      refine gx_pop 33 dX0_round_33 rfl ?_
      refine gx_iload_n 34 1 dX0_round_34 rfl ?_
      refine gx_iconst 35 dX0_round_35 ?_
      refine gx_icmp_ne 36 49 dX0_round_36 (by decide) (fun c8 => ?_) (fun c8 => ?_)
      · replace h := if_f h c8
        refine gx_aload_n 49 0 dX0_round_49 rfl ?_
        refine gx_get (t := 1) (k := 9) (v := .ref (ad x0 14)) 50 cw1 (by decide) (tgs (show stc 0 = (1, 0) by decide) (by decide)) q530 same_f (rf_ne (nes (show stc 14 = (6, 0) by decide) (by decide))) dX0_round_50 ?_
        refine gx_getN (t := 6) (k := 0) (v := .ref (ad x0 15)) 53 cw6 (by decide) (tgs (show stc 14 = (6, 0) by decide) (by decide)) q398 same_f (rf_ne (nes (show stc 15 = (101, 6) by decide) (by decide))) dX0_round_53 ?_
        refine gx_iload_n 56 1 dX0_round_56 rfl ?_
        obtain ⟨g9, h⟩ := gd_e h
        refine gx_iald 57 (tgs (show stc 15 = (101, 6) by decide) (by decide)) (oks (show stc 15 = (101, 6) by decide) (by decide) g9) dX0_round_57 ?_
        exact gx_iret 58 dX0_round_58 (rt h)
      · replace h := if_t h c8
        refine gx_aload_n 39 0 dX0_round_39 rfl ?_
        refine gx_get (t := 1) (k := 9) (v := .ref (ad x0 14)) 40 cw1 (by decide) (tgs (show stc 0 = (1, 0) by decide) (by decide)) q530 same_f (rf_ne (nes (show stc 14 = (6, 0) by decide) (by decide))) dX0_round_40 ?_
        refine gx_getN (t := 6) (k := 4) (v := J (z6.2 14 4)) 43 cw6 (by decide) (tgs (show stc 14 = (6, 0) by decide) (by decide)) q403 same_f rfl dX0_round_43 ?_
        refine gx_goto 46 58 dX0_round_46 (by decide) ?_
        exact gx_iret 58 dX0_round_58 (rt h)
    refine gx_icmp_eq 9 22 dX0_round_9 (by decide) (fun c11 => ?_) (fun c11 => ?_)
    · replace h := if_t h c11
      refine gx_sub [0, 1] rfl ?_
      exact hj10 _ _ h
    · replace h := if_f h c11
      refine gx_aload_n 12 0 dX0_round_12 rfl ?_
      refine gx_iload_n 13 1 dX0_round_13 rfl ?_
      obtain ⟨z12, ez12, h⟩ := opt_e h
      refine gx_callV (As := [J a1]) (rest := []) (st' := [J z12.1]) 14 1 cw1 (tgs (show stc 0 = (1, 0) by decide) (by decide)) (mx0_isSaying ez12 l) (lw_V q1346 q1348 qs35 q147 q1349) (by decide +kernel) (by decide) rfl rfl (Nat.le_of_ble_eq_true rfl) dX0_round_14 rfl ?_
      refine gx_if_ne 17 22 dX0_round_17 (by decide) (fun c13 => ?_) (fun c13 => ?_)
      · replace h := if_f h c13
        refine gx_sub [0, 1] rfl ?_
        exact hj10 _ _ h
      · replace h := if_t h c13
        refine gx_iconst 20 dX0_round_20 ?_
        exact gx_iret 21 dX0_round_21 (rt h)
/-! VerbAtDusk.truths -/
noncomputable def x0_truths_L17 (k70 : Int → Int → Int → XS → Option (Int × XS)) : Nat → Int → Int → Int → Int → XS → Option (Int × XS)
  | 0, _, _, _, _, _ => none
  | n + 1, x1_12, x2_13, x3_14, x4_15, s16 =>
    Option.bind (x0_verbs s16) fun z21 =>
    if i32 z21.1 ≤ i32 x4_15 then
      k70 x1_12 x2_13 x3_14 z21.2
    else
      bnd (fun (x1_23 : Int) (x2_24 : Int) (x4_25 : Int) (w26 : Int) (s27 : XS) =>
          bnd (x4_25 + 1) fun x4_28 =>
          x0_truths_L17 k70 n x1_23 x2_24 w26 x4_28 s27) fun j29 =>
      bnd (fun (x1_30 : Int) (x2_31 : Int) (x4_32 : Int) (s33 : XS) =>
          j29 x1_30 x2_31 x4_32 0 s33) fun j34 =>
      if i32 x3_14 = 0 then
        j34 x1_12 x2_13 x4_15 z21.2
      else
        Option.bind (x0_has (z21.2 36 1) x4_15 z21.2) fun z36 =>
        bnd (fun (x1_37 : Int) (x2_38 : Int) (x4_39 : Int) (s40 : XS) =>
            j29 x1_37 x2_38 x4_39 1 s40) fun j41 =>
        if i32 z36.1 = 0 then
          Option.bind (x7_can 36 x2_13 x4_15 z36.2) fun z43 =>
          if i32 z43.1 = 0 then
            j34 x1_12 x2_13 x4_15 z43.2
          else
            j41 x1_12 x2_13 x4_15 z43.2
        else
          j41 x1_12 x2_13 x4_15 z36.2
noncomputable def x0_truths_L4 (k90 : Int → XS → Option (Int × XS)) : Nat → Int → Int → XS → Option (Int × XS)
  | 0, _, _, _ => none
  | n + 1, x1_3, x2_4, s5 =>
    Option.bind (x0_sayings s5) fun z8 =>
    if i32 z8.1 ≤ i32 x2_4 then
      k90 x1_3 z8.2
    else
      bnd 1 fun x3_10 =>
      bnd 0 fun x4_11 =>
      x0_truths_L17
        (fun (x1_45 : Int) (x2_46 : Int) (x3_47 : Int) (s48 : XS) =>
          bnd (fun (x2_49 : Int) (w50 : Int) (w51 : Int) (s52 : XS) =>
              bnd (ior w51 w50) fun x1_53 =>
              bnd (x2_49 + 1) fun x2_54 =>
              x0_truths_L4 k90 n x1_53 x2_54 s52) fun j55 =>
          if i32 x3_47 = 0 then
            j55 x2_46 0 x1_45 s48
          else
            j55 x2_46 (ishl 1 x2_46) x1_45 s48)
        FU x1_3 x2_4 x3_10 x4_11 z8.2
noncomputable def x0_truths (s0 : XS) : Option (Int × XS) :=
  bnd 0 fun x1_1 =>
  bnd 0 fun x2_2 =>
  x0_truths_L4
    (fun (x1_57 : Int) (s58 : XS) =>
      some (x1_57, s58))
    FU x1_1 x2_2 s0
theorem wx0_truths_L17 {l : Launch} {x0 : Nat} {D : XD} {cN sN : Nat} {res : Int × XS} {k70 : Int → Int → Int → XS → Option (Int × XS)} (hk70 : ∀ (x1_17 : Int) (x2_18 : Int) (x3_19 : Int) (s20 : XS), k70 x1_17 x2_18 x3_19 s20 = some res → GX l cX0_truths "VerbAtDusk" 5 (some .int) "truths" [] x0 D true 1 710 cN sN (0, res) s20 70 [(0, .ref (ad x0 0)), (1, J x1_17), (2, J x2_18), (3, J x3_19)] []) : ∀ (n : Nat) (x1_12 : Int) (x2_13 : Int) (x3_14 : Int) (x4_15 : Int) (s16 : XS), x0_truths_L17 k70 n x1_12 x2_13 x3_14 x4_15 s16 = some res → GX l cX0_truths "VerbAtDusk" 5 (some .int) "truths" [] x0 D true 1 710 cN sN (0, res) s16 17 [(0, .ref (ad x0 0)), (1, J x1_12), (2, J x2_13), (3, J x3_14), (4, J x4_15)] [] := by
  intro n
  induction n with
  | zero =>
    intro x1_12 x2_13 x3_14 x4_15 s16 h
    cases h
  | succ n ih =>
    intro x1_12 x2_13 x3_14 x4_15 s16 h
    rw [x0_truths_L17] at h
    refine gx_iload 17 4 dX0_truths_17 rfl ?_
    refine gx_aload_n 19 0 dX0_truths_19 rfl ?_
    obtain ⟨z21, ez21, h⟩ := opt_e h
    refine gx_callV (As := []) (rest := [J x4_15]) (st' := [J z21.1, J x4_15]) 20 0 cw1 (tgs (show stc 0 = (1, 0) by decide) (by decide)) (mx0_verbs ez21 l) (lw_V q1306 q1308 qs34 q147 q1309) (by decide +kernel) (by decide) rfl rfl (Nat.le_of_ble_eq_true rfl) dX0_truths_20 rfl ?_
    refine gx_icmp_ge 23 70 dX0_truths_23 (by decide) (fun c22 => ?_) (fun c22 => ?_)
    · replace h := if_t h c22
      refine gx_sub [0, 1, 2, 3] rfl ?_
      exact hk70 _ _ _ _ h
    · replace h := if_f h c22
      refine gx_iload_n 26 3 dX0_truths_26 rfl ?_
      obtain ⟨j29, ej29, h⟩ := bnd_e h
      have hj29 : ∀ (x1_23 : Int) (x2_24 : Int) (x4_25 : Int) (w26 : Int) (s27 : XS), j29 x1_23 x2_24 x4_25 w26 s27 = some res → GX l cX0_truths "VerbAtDusk" 5 (some .int) "truths" [] x0 D true 1 710 cN sN (0, res) s27 63 [(0, .ref (ad x0 0)), (1, J x1_23), (2, J x2_24), (4, J x4_25)] [J w26] := by
        clear h
        intro x1_23 x2_24 x4_25 w26 s27 h
        subst ej29
        refine gx_istore_n 63 [(3, J w26), (0, .ref (ad x0 0)), (1, J x1_23), (2, J x2_24), (4, J x4_25)] dX0_truths_63 (by decide) rfl rfl ?_
        obtain ⟨x4_28, ex4_28, h⟩ := bnd_e h
        refine gx_iinc 64 4 [(4, J x4_28), (3, J w26), (0, .ref (ad x0 0)), (1, J x1_23), (2, J x2_24)] dX0_truths_64 rfl ex4_28 (by decide) rfl ?_
        refine gx_goto 67 17 dX0_truths_67 (by decide) ?_
        refine gx_sub [2, 3, 4, 1, 0] rfl ?_
        exact ih _ _ _ _ _ h
      obtain ⟨j34, ej34, h⟩ := bnd_e h
      have hj34 : ∀ (x1_30 : Int) (x2_31 : Int) (x4_32 : Int) (s33 : XS), j34 x1_30 x2_31 x4_32 s33 = some res → GX l cX0_truths "VerbAtDusk" 5 (some .int) "truths" [] x0 D true 1 710 cN sN (0, res) s33 62 [(0, .ref (ad x0 0)), (1, J x1_30), (2, J x2_31), (4, J x4_32)] [] := by
        clear h
        intro x1_30 x2_31 x4_32 s33 h
        subst ej34
        refine gx_iconst 62 dX0_truths_62 ?_
        refine gx_sub [0, 1, 2, 3] rfl ?_
        exact hj29 _ _ _ _ _ h
      refine gx_if_eq 27 62 dX0_truths_27 (by decide) (fun c35 => ?_) (fun c35 => ?_)
      · replace h := if_t h c35
        refine gx_sub [0, 1, 2, 4] rfl ?_
        exact hj34 _ _ _ _ h
      · replace h := if_f h c35
        refine gx_aload_n 30 0 dX0_truths_30 rfl ?_
        refine gx_get (t := 1) (k := 11) (v := .ref (ad x0 36)) 31 cw1 (by decide) (tgs (show stc 0 = (1, 0) by decide) (by decide)) q534 same_f (rf_ne (nes (show stc 36 = (8, 6) by decide) (by decide))) dX0_truths_31 ?_
        refine gx_getN (t := 8) (k := 1) (v := J (z21.2 36 1)) 34 cw8 (by decide) (tgs (show stc 36 = (8, 6) by decide) (by decide)) q476 same_f rfl dX0_truths_34 ?_
        refine gx_iload 37 4 dX0_truths_37 rfl ?_
        obtain ⟨z36, ez36, h⟩ := opt_e h
        refine gx_callS (As := [J (z21.2 36 1), J x4_15]) (rest := []) (st' := [J z36.1]) 39 2 (mx0_has ez36 l) (lw_S q1488 q1010 q147 q1011) (by decide +kernel) (by decide) rfl rfl (Nat.le_of_ble_eq_true rfl) dX0_truths_39 rfl ?_
        obtain ⟨j41, ej41, h⟩ := bnd_e h
        have hj41 : ∀ (x1_37 : Int) (x2_38 : Int) (x4_39 : Int) (s40 : XS), j41 x1_37 x2_38 x4_39 s40 = some res → GX l cX0_truths "VerbAtDusk" 5 (some .int) "truths" [] x0 D true 1 710 cN sN (0, res) s40 58 [(0, .ref (ad x0 0)), (1, J x1_37), (2, J x2_38), (4, J x4_39)] [] := by
          clear h
          intro x1_37 x2_38 x4_39 s40 h
          subst ej41
          refine gx_iconst 58 dX0_truths_58 ?_
          refine gx_goto 59 63 dX0_truths_59 (by decide) ?_
          refine gx_sub [0, 1, 2, 3] rfl ?_
          exact hj29 _ _ _ _ _ h
        refine gx_if_ne 42 58 dX0_truths_42 (by decide) (fun c42 => ?_) (fun c42 => ?_)
        · replace h := if_f h c42
          refine gx_sub [0, 1, 2, 4] rfl ?_
          exact hj41 _ _ _ _ h
        · replace h := if_t h c42
          refine gx_aload_n 45 0 dX0_truths_45 rfl ?_
          refine gx_get (t := 1) (k := 11) (v := .ref (ad x0 36)) 46 cw1 (by decide) (tgs (show stc 0 = (1, 0) by decide) (by decide)) q534 same_f (rf_ne (nes (show stc 36 = (8, 6) by decide) (by decide))) dX0_truths_46 ?_
          refine gx_iload_n 49 2 dX0_truths_49 rfl ?_
          refine gx_iload 50 4 dX0_truths_50 rfl ?_
          obtain ⟨z43, ez43, h⟩ := opt_e h
          refine gx_callV (As := [J x2_13, J x4_15]) (rest := []) (st' := [J z43.1]) 52 2 cw8 (tgs (show stc 36 = (8, 6) by decide) (by decide)) (mx7_can ez43 l) (lw_V q1502 q1361 q1362 q160 q1363) (by decide +kernel) (by decide) rfl rfl (Nat.le_of_ble_eq_true rfl) dX0_truths_52 rfl ?_
          refine gx_if_eq 55 62 dX0_truths_55 (by decide) (fun c44 => ?_) (fun c44 => ?_)
          · replace h := if_t h c44
            refine gx_sub [0, 1, 2, 4] rfl ?_
            exact hj34 _ _ _ _ h
          · replace h := if_f h c44
            refine gx_sub [0, 1, 2, 4] rfl ?_
            exact hj41 _ _ _ _ h
theorem wx0_truths_L4 {l : Launch} {x0 : Nat} {D : XD} {cN sN : Nat} {res : Int × XS} {k90 : Int → XS → Option (Int × XS)} (hk90 : ∀ (x1_6 : Int) (s7 : XS), k90 x1_6 s7 = some res → GX l cX0_truths "VerbAtDusk" 5 (some .int) "truths" [] x0 D true 1 710 cN sN (0, res) s7 90 [(1, J x1_6)] []) : ∀ (n : Nat) (x1_3 : Int) (x2_4 : Int) (s5 : XS), x0_truths_L4 k90 n x1_3 x2_4 s5 = some res → GX l cX0_truths "VerbAtDusk" 5 (some .int) "truths" [] x0 D true 1 710 cN sN (0, res) s5 4 [(0, .ref (ad x0 0)), (1, J x1_3), (2, J x2_4)] [] := by
  intro n
  induction n with
  | zero =>
    intro x1_3 x2_4 s5 h
    cases h
  | succ n ih =>
    intro x1_3 x2_4 s5 h
    rw [x0_truths_L4] at h
    refine gx_iload_n 4 2 dX0_truths_4 rfl ?_
    refine gx_aload_n 5 0 dX0_truths_5 rfl ?_
    obtain ⟨z8, ez8, h⟩ := opt_e h
    refine gx_callV (As := []) (rest := [J x2_4]) (st' := [J z8.1, J x2_4]) 6 0 cw1 (tgs (show stc 0 = (1, 0) by decide) (by decide)) (mx0_sayings ez8 l) (lw_V q1305 q1290 qs33 q147 q1291) (by decide +kernel) (by decide) rfl rfl (Nat.le_of_ble_eq_true rfl) dX0_truths_6 rfl ?_
    refine gx_icmp_ge 9 90 dX0_truths_9 (by decide) (fun c9 => ?_) (fun c9 => ?_)
    · replace h := if_t h c9
      refine gx_sub [1] rfl ?_
      exact hk90 _ _ h
    · replace h := if_f h c9
      refine gx_iconst 12 dX0_truths_12 ?_
      obtain ⟨x3_10, ex3_10, h⟩ := bnd_e h
      refine gx_istore_n 13 [(3, J x3_10), (0, .ref (ad x0 0)), (1, J x1_3), (2, J x2_4)] dX0_truths_13 (by decide) ex3_10 rfl ?_
      refine gx_iconst 14 dX0_truths_14 ?_
      obtain ⟨x4_11, ex4_11, h⟩ := bnd_e h
      refine gx_istore 15 [(4, J x4_11), (3, J x3_10), (0, .ref (ad x0 0)), (1, J x1_3), (2, J x2_4)] dX0_truths_15 (by decide) ex4_11 rfl ?_
      refine gx_sub [2, 3, 4, 1, 0] rfl ?_
      refine wx0_truths_L17 (fun x1_45 x2_46 x3_47 s48 h => ?_) FU _ _ _ _ _ h
      · refine gx_iload_n 70 1 dX0_truths_70 rfl ?_
        refine gx_iload_n 71 3 dX0_truths_71 rfl ?_
        obtain ⟨j55, ej55, h⟩ := bnd_e h
        have hj55 : ∀ (x2_49 : Int) (w50 : Int) (w51 : Int) (s52 : XS), j55 x2_49 w50 w51 s52 = some res → GX l cX0_truths "VerbAtDusk" 5 (some .int) "truths" [] x0 D true 1 710 cN sN (0, res) s52 82 [(0, .ref (ad x0 0)), (2, J x2_49)] [J w50, J w51] := by
          clear h
          intro x2_49 w50 w51 s52 h
          subst ej55
          refine gx_ior 82 dX0_truths_82 ?_
          obtain ⟨x1_53, ex1_53, h⟩ := bnd_e h
          refine gx_istore_n 83 [(1, J x1_53), (0, .ref (ad x0 0)), (2, J x2_49)] dX0_truths_83 (by decide) ex1_53 rfl ?_
          obtain ⟨x2_54, ex2_54, h⟩ := bnd_e h
          refine gx_iinc 84 2 [(2, J x2_54), (1, J x1_53), (0, .ref (ad x0 0))] dX0_truths_84 rfl ex2_54 (by decide) rfl ?_
          refine gx_goto 87 4 dX0_truths_87 (by decide) ?_
          refine gx_sub [2, 1, 0] rfl ?_
          exact ih _ _ _ h
        refine gx_if_eq 72 81 dX0_truths_72 (by decide) (fun c56 => ?_) (fun c56 => ?_)
        · replace h := if_t h c56
          refine gx_iconst 81 dX0_truths_81 ?_
          refine gx_sub [0, 2] rfl ?_
          exact hj55 _ _ _ _ h
        · replace h := if_f h c56
          refine gx_iconst 75 dX0_truths_75 ?_
          refine gx_iload_n 76 2 dX0_truths_76 rfl ?_
          refine gx_ishl 77 dX0_truths_77 ?_
          refine gx_goto 78 82 dX0_truths_78 (by decide) ?_
          refine gx_sub [0, 2] rfl ?_
          exact hj55 _ _ _ _ h
theorem mx0_truths {x0 : Nat} {D : XD} {s0 : XS} {res : Int × XS} (h : x0_truths s0 = some res) (l : Launch) : XMet0 l yX0_truths cX0_truths 5 (some .int) 710 true x0 D [.ref (ad x0 0)] s0 1 res := by
  refine XMet0.ofn [(0, .ref (ad x0 0))] "VerbAtDusk" "truths" rfl rfl (plainFor_of_name (by decide)) (Nat.le_of_ble_eq_true rfl) rfl ?_
  unfold x0_truths at h
  generalize nC s0 = cN
  generalize nS s0 = sN
  refine gx_iconst 0 dX0_truths_0 ?_
  obtain ⟨x1_1, ex1_1, h⟩ := bnd_e h
  refine gx_istore_n 1 [(1, J x1_1), (0, .ref (ad x0 0))] dX0_truths_1 (by decide) ex1_1 rfl ?_
  refine gx_iconst 2 dX0_truths_2 ?_
  obtain ⟨x2_2, ex2_2, h⟩ := bnd_e h
  refine gx_istore_n 3 [(2, J x2_2), (1, J x1_1), (0, .ref (ad x0 0))] dX0_truths_3 (by decide) ex2_2 rfl ?_
  refine gx_sub [2, 1, 0] rfl ?_
  refine wx0_truths_L4 (fun x1_57 s58 h => ?_) FU _ _ _ h
  · refine gx_iload_n 90 0 dX0_truths_90 rfl ?_
    exact gx_iret 91 dX0_truths_91 (rt h)
/-! VerbAtDusk.needed -/
noncomputable def x0_needed_L23 (k90 : Int → XS → Option (Int × XS)) : Nat → Int → Int → XS → Option (Int × XS)
  | 0, _, _, _ => none
  | n + 1, x1_6, x2_7, s8 =>
    Option.bind (x0_verbs s8) fun z11 =>
    if i32 z11.1 ≤ i32 x2_7 then
      k90 x1_6 z11.2
    else
      Option.bind (x0_has (z11.2 36 1) x2_7 z11.2) fun z13 =>
      bnd (fun (x1_14 : Int) (x2_15 : Int) (s16 : XS) =>
          bnd (x2_15 + 1) fun x2_17 =>
          x0_needed_L23 k90 n x1_14 x2_17 s16) fun j18 =>
      if i32 z13.1 = 0 then
        Option.bind (x7_sack 36 z13.2) fun z20 =>
        Option.bind (x6_in (iand z20.1 (ixor (ishl 1 x2_7) (-1))) z20.2) fun z21 =>
        gd (z21.1 = 19) <|
        bnd (fun (x2_23 : Int) (w24 : Int) (w25 : Int) (s26 : XS) =>
            bnd (ior w25 w24) fun x1_27 =>
            j18 x1_27 x2_23 s26) fun j28 =>
        if i32 (z21.2 19 5) = 0 then
          j28 x2_7 (ishl 1 x2_7) x1_6 z21.2
        else
          j28 x2_7 0 x1_6 z21.2
      else
        j18 x1_6 x2_7 z13.2
noncomputable def x0_needed (s0 : XS) : Option (Int × XS) :=
  Option.bind (x6_by 36 s0) fun z1 =>
  gd (z1.1 = 19) <|
  if i32 (z1.2 19 5) = 0 then
    some (0, z1.2)
  else
    bnd 0 fun x1_4 =>
    bnd 0 fun x2_5 =>
    x0_needed_L23
      (fun (x1_30 : Int) (s31 : XS) =>
        some (x1_30, s31))
      FU x1_4 x2_5 z1.2
theorem wx0_needed_L23 {l : Launch} {x0 : Nat} {D : XD} {cN sN : Nat} {res : Int × XS} {k90 : Int → XS → Option (Int × XS)} (hk90 : ∀ (x1_9 : Int) (s10 : XS), k90 x1_9 s10 = some res → GX l cX0_needed "VerbAtDusk" 3 (some .int) "needed" [] x0 D true 1 711 cN sN (0, res) s10 90 [(1, J x1_9)] []) : ∀ (n : Nat) (x1_6 : Int) (x2_7 : Int) (s8 : XS), x0_needed_L23 k90 n x1_6 x2_7 s8 = some res → GX l cX0_needed "VerbAtDusk" 3 (some .int) "needed" [] x0 D true 1 711 cN sN (0, res) s8 23 [(0, .ref (ad x0 0)), (1, J x1_6), (2, J x2_7)] [] := by
  intro n
  induction n with
  | zero =>
    intro x1_6 x2_7 s8 h
    cases h
  | succ n ih =>
    intro x1_6 x2_7 s8 h
    rw [x0_needed_L23] at h
    refine gx_iload_n 23 2 dX0_needed_23 rfl ?_
    refine gx_aload_n 24 0 dX0_needed_24 rfl ?_
    obtain ⟨z11, ez11, h⟩ := opt_e h
    refine gx_callV (As := []) (rest := [J x2_7]) (st' := [J z11.1, J x2_7]) 25 0 cw1 (tgs (show stc 0 = (1, 0) by decide) (by decide)) (mx0_verbs ez11 l) (lw_V q1306 q1308 qs34 q147 q1309) (by decide +kernel) (by decide) rfl rfl (Nat.le_of_ble_eq_true rfl) dX0_needed_25 rfl ?_
    refine gx_icmp_ge 28 90 dX0_needed_28 (by decide) (fun c12 => ?_) (fun c12 => ?_)
    · replace h := if_t h c12
      refine gx_sub [1] rfl ?_
      exact hk90 _ _ h
    · replace h := if_f h c12
      refine gx_aload_n 31 0 dX0_needed_31 rfl ?_
      refine gx_get (t := 1) (k := 11) (v := .ref (ad x0 36)) 32 cw1 (by decide) (tgs (show stc 0 = (1, 0) by decide) (by decide)) q534 same_f (rf_ne (nes (show stc 36 = (8, 6) by decide) (by decide))) dX0_needed_32 ?_
      refine gx_getN (t := 8) (k := 1) (v := J (z11.2 36 1)) 35 cw8 (by decide) (tgs (show stc 36 = (8, 6) by decide) (by decide)) q476 same_f rfl dX0_needed_35 ?_
      refine gx_iload_n 38 2 dX0_needed_38 rfl ?_
      obtain ⟨z13, ez13, h⟩ := opt_e h
      refine gx_callS (As := [J (z11.2 36 1), J x2_7]) (rest := []) (st' := [J z13.1]) 39 2 (mx0_has ez13 l) (lw_S q1488 q1010 q147 q1011) (by decide +kernel) (by decide) rfl rfl (Nat.le_of_ble_eq_true rfl) dX0_needed_39 rfl ?_
      obtain ⟨j18, ej18, h⟩ := bnd_e h
      have hj18 : ∀ (x1_14 : Int) (x2_15 : Int) (s16 : XS), j18 x1_14 x2_15 s16 = some res → GX l cX0_needed "VerbAtDusk" 3 (some .int) "needed" [] x0 D true 1 711 cN sN (0, res) s16 84 [(0, .ref (ad x0 0)), (1, J x1_14), (2, J x2_15)] [] := by
        clear h
        intro x1_14 x2_15 s16 h
        subst ej18
        obtain ⟨x2_17, ex2_17, h⟩ := bnd_e h
        refine gx_iinc 84 2 [(2, J x2_17), (0, .ref (ad x0 0)), (1, J x1_14)] dX0_needed_84 rfl ex2_17 (by decide) rfl ?_
        refine gx_goto 87 23 dX0_needed_87 (by decide) ?_
        refine gx_sub [1, 2, 0] rfl ?_
        exact ih _ _ _ h
      refine gx_if_eq 42 48 dX0_needed_42 (by decide) (fun c19 => ?_) (fun c19 => ?_)
      · replace h := if_t h c19
        refine gx_iload_n 48 1 dX0_needed_48 rfl ?_
        refine gx_aload_n 49 0 dX0_needed_49 rfl ?_
        refine gx_get (t := 1) (k := 10) (v := .ref (ad x0 19)) 50 cw1 (by decide) (tgs (show stc 0 = (1, 0) by decide) (by decide)) q532 same_f (rf_ne (nes (show stc 19 = (7, 0) by decide) (by decide))) dX0_needed_50 ?_
        refine gx_aload_n 53 0 dX0_needed_53 rfl ?_
        refine gx_get (t := 1) (k := 11) (v := .ref (ad x0 36)) 54 cw1 (by decide) (tgs (show stc 0 = (1, 0) by decide) (by decide)) q534 same_f (rf_ne (nes (show stc 36 = (8, 6) by decide) (by decide))) dX0_needed_54 ?_
        obtain ⟨z20, ez20, h⟩ := opt_e h
        refine gx_callV (As := []) (rest := [.ref (ad x0 19), J x1_6]) (st' := [J z20.1, .ref (ad x0 19), J x1_6]) 57 0 cw8 (tgs (show stc 36 = (8, 6) by decide) (by decide)) (mx7_sack ez20 l) (lw_V q1532 q1457 q1458 q160 q1459) (by decide +kernel) (by decide) rfl rfl (Nat.le_of_ble_eq_true rfl) dX0_needed_57 rfl ?_
        refine gx_iconst 60 dX0_needed_60 ?_
        refine gx_iload_n 61 2 dX0_needed_61 rfl ?_
        refine gx_ishl 62 dX0_needed_62 ?_
        refine gx_iconst 63 dX0_needed_63 ?_
        refine gx_ixor 64 dX0_needed_64 ?_
        refine gx_iand 65 dX0_needed_65 ?_
        obtain ⟨z21, ez21, h⟩ := opt_e h
        refine gx_callV (As := [J (iand z20.1 (ixor (ishl 1 x2_7) (-1)))]) (rest := [J x1_6]) (st' := [.ref (ad x0 z21.1), J x1_6]) 66 1 cw7 (tgs (show stc 19 = (7, 0) by decide) (by decide)) (mx6_in ez21 l) (lw_V q1533 q1462 q1463 q159 q1464) (by decide +kernel) (by decide) rfl rfl (Nat.le_of_ble_eq_true rfl) dX0_needed_66 rfl ?_
        obtain ⟨g22, h⟩ := gd_e h
        rw [g22]
        refine gx_getN (t := 7) (k := 5) (v := J (z21.2 19 5)) 69 cw7 (by decide) (tgs (show stc 19 = (7, 0) by decide) (by decide)) q439 same_f rfl dX0_needed_69 ?_
        obtain ⟨j28, ej28, h⟩ := bnd_e h
        have hj28 : ∀ (x2_23 : Int) (w24 : Int) (w25 : Int) (s26 : XS), j28 x2_23 w24 w25 s26 = some res → GX l cX0_needed "VerbAtDusk" 3 (some .int) "needed" [] x0 D true 1 711 cN sN (0, res) s26 82 [(0, .ref (ad x0 0)), (2, J x2_23)] [J w24, J w25] := by
          clear h
          intro x2_23 w24 w25 s26 h
          subst ej28
          refine gx_ior 82 dX0_needed_82 ?_
          obtain ⟨x1_27, ex1_27, h⟩ := bnd_e h
          refine gx_istore_n 83 [(1, J x1_27), (0, .ref (ad x0 0)), (2, J x2_23)] dX0_needed_83 (by decide) ex1_27 rfl ?_
          refine gx_sub [1, 0, 2] rfl ?_
          exact hj18 _ _ _ h
        refine gx_if_eq 72 79 dX0_needed_72 (by decide) (fun c29 => ?_) (fun c29 => ?_)
        · replace h := if_t h c29
          refine gx_iconst 79 dX0_needed_79 ?_
          refine gx_iload_n 80 2 dX0_needed_80 rfl ?_
          refine gx_ishl 81 dX0_needed_81 ?_
          refine gx_sub [0, 2] rfl ?_
          exact hj28 _ _ _ _ h
        · replace h := if_f h c29
          refine gx_iconst 75 dX0_needed_75 ?_
          refine gx_goto 76 82 dX0_needed_76 (by decide) ?_
          refine gx_sub [0, 2] rfl ?_
          exact hj28 _ _ _ _ h
      · replace h := if_f h c19
        refine gx_goto 45 84 dX0_needed_45 (by decide) ?_
        refine gx_sub [0, 1, 2] rfl ?_
        exact hj18 _ _ _ h
theorem mx0_needed {x0 : Nat} {D : XD} {s0 : XS} {res : Int × XS} (h : x0_needed s0 = some res) (l : Launch) : XMet0 l yX0_needed cX0_needed 3 (some .int) 711 true x0 D [.ref (ad x0 0)] s0 1 res := by
  refine XMet0.ofn [(0, .ref (ad x0 0))] "VerbAtDusk" "needed" rfl rfl (plainFor_of_name (by decide)) (Nat.le_of_ble_eq_true rfl) rfl ?_
  unfold x0_needed at h
  generalize nC s0 = cN
  generalize nS s0 = sN
  refine gx_aload_n 0 0 dX0_needed_0 rfl ?_
  refine gx_get (t := 1) (k := 10) (v := .ref (ad x0 19)) 1 cw1 (by decide) (tgs (show stc 0 = (1, 0) by decide) (by decide)) q532 same_f (rf_ne (nes (show stc 19 = (7, 0) by decide) (by decide))) dX0_needed_1 ?_
  refine gx_aload_n 4 0 dX0_needed_4 rfl ?_
  refine gx_get (t := 1) (k := 11) (v := .ref (ad x0 36)) 5 cw1 (by decide) (tgs (show stc 0 = (1, 0) by decide) (by decide)) q534 same_f (rf_ne (nes (show stc 36 = (8, 6) by decide) (by decide))) dX0_needed_5 ?_
  obtain ⟨z1, ez1, h⟩ := opt_e h
  refine gx_callV (As := [.ref (ad x0 36)]) (rest := []) (st' := [.ref (ad x0 z1.1)]) 8 1 cw7 (tgs (show stc 19 = (7, 0) by decide) (by decide)) (mx6_by ez1 l) (lw_V q1354 q1355 q1356 q159 q1357) (by decide +kernel) (by decide) rfl rfl (Nat.le_of_ble_eq_true rfl) dX0_needed_8 rfl ?_
  obtain ⟨g2, h⟩ := gd_e h
  rw [g2]
  refine gx_getN (t := 7) (k := 5) (v := J (z1.2 19 5)) 11 cw7 (by decide) (tgs (show stc 19 = (7, 0) by decide) (by decide)) q439 same_f rfl dX0_needed_11 ?_
  refine gx_if_ne 14 19 dX0_needed_14 (by decide) (fun c3 => ?_) (fun c3 => ?_)
  · replace h := if_f h c3
    refine gx_iconst 19 dX0_needed_19 ?_
    obtain ⟨x1_4, ex1_4, h⟩ := bnd_e h
    refine gx_istore_n 20 [(1, J x1_4), (0, .ref (ad x0 0))] dX0_needed_20 (by decide) ex1_4 rfl ?_
    refine gx_iconst 21 dX0_needed_21 ?_
    obtain ⟨x2_5, ex2_5, h⟩ := bnd_e h
    refine gx_istore_n 22 [(2, J x2_5), (1, J x1_4), (0, .ref (ad x0 0))] dX0_needed_22 (by decide) ex2_5 rfl ?_
    refine gx_sub [2, 1, 0] rfl ?_
    refine wx0_needed_L23 (fun x1_30 s31 h => ?_) FU _ _ _ h
    · refine gx_iload_n 90 0 dX0_needed_90 rfl ?_
      exact gx_iret 91 dX0_needed_91 (rt h)
  · replace h := if_t h c3
    refine gx_iconst 17 dX0_needed_17 ?_
    exact gx_iret 18 dX0_needed_18 (rt h)
/-! VerbAtDusk.spilt -/
noncomputable def x0_spilt (a1 : Int) (s0 : XS) : Option (Int × XS) :=
  Option.bind (x0_isCountry s0) fun z2 =>
  if i32 z2.1 = 0 then
    some ((-1), z2.2)
  else
    bnd (fun (x1_4 : Int) (s5 : XS) =>
        Option.bind (x7_sack 36 s5) fun z6 =>
        Option.bind (j16_bitCount true z6.1 z6.2) fun z7 =>
        Option.bind (x0_sayings z7.2) fun z8 =>
        if i32 z8.1 ≤ i32 z7.1 then
          Option.bind (x6_by 36 z8.2) fun z10 =>
          gd (z10.1 = 19) <|
          Option.bind (x6_spilt z10.2) fun z12 =>
          gd (z12.1 = 19) <|
          if i32 x1_4 = i32 (-1) then
            some ((z12.2 19 7), z12.2)
          else
            gd (ok 6 x1_4) <|
            some ((z12.2 34 (i32 x1_4)), z12.2)
        else
          some ((-1), z8.2)) fun j16 =>
    if i32 a1 = i32 (-1) then
      j16 a1 z2.2
    else
      Option.bind (x0_isSaying a1 z2.2) fun z18 =>
      if i32 z18.1 = 0 then
        some ((-1), z18.2)
      else
        j16 a1 z18.2
theorem mx0_spilt {x0 : Nat} {D : XD} {a1 : Int} {s0 : XS} {res : Int × XS} (h : x0_spilt a1 s0 = some res) (l : Launch) : XMet0 l yX0_spilt cX0_spilt 2 (some .int) 711 true x0 D [.ref (ad x0 0), J a1] s0 1 res := by
  refine XMet0.ofn [(0, .ref (ad x0 0)), (1, J a1)] "VerbAtDusk" "spilt" rfl rfl (plainFor_of_name (by decide)) (Nat.le_of_ble_eq_true rfl) rfl ?_
  unfold x0_spilt at h
  generalize nC s0 = cN
  generalize nS s0 = sN
  refine gx_aload_n 0 0 dX0_spilt_0 rfl ?_
  obtain ⟨z2, ez2, h⟩ := opt_e h
  refine gx_callV (As := []) (rest := []) (st' := [J z2.1]) 1 0 cw1 (tgs (show stc 0 = (1, 0) by decide) (by decide)) (mx0_isCountry ez2 l) (lw_V q1516 q1518 qs42 q147 q1519) (by decide +kernel) (by decide) rfl rfl (Nat.le_of_ble_eq_true rfl) dX0_spilt_1 rfl ?_
  refine gx_if_eq 4 37 dX0_spilt_4 (by decide) (fun c3 => ?_) (fun c3 => ?_)
  · replace h := if_t h c3
    refine gx_iconst 37 dX0_spilt_37 ?_
    exact gx_iret 38 dX0_spilt_38 (rt h)
  · replace h := if_f h c3
    refine gx_iload_n 7 1 dX0_spilt_7 rfl ?_
    refine gx_iconst 8 dX0_spilt_8 ?_
    obtain ⟨j16, ej16, h⟩ := bnd_e h
    have hj16 : ∀ (x1_4 : Int) (s5 : XS), j16 x1_4 s5 = some res → GX l cX0_spilt "VerbAtDusk" 2 (some .int) "spilt" [] x0 D true 1 711 cN sN (0, res) s5 20 [(0, .ref (ad x0 0)), (1, J x1_4)] [] := by
      clear h
      intro x1_4 s5 h
      subst ej16
      refine gx_aload_n 20 0 dX0_spilt_20 rfl ?_
      refine gx_get (t := 1) (k := 11) (v := .ref (ad x0 36)) 21 cw1 (by decide) (tgs (show stc 0 = (1, 0) by decide) (by decide)) q534 same_f (rf_ne (nes (show stc 36 = (8, 6) by decide) (by decide))) dX0_spilt_21 ?_
      obtain ⟨z6, ez6, h⟩ := opt_e h
      refine gx_callV (As := []) (rest := []) (st' := [J z6.1]) 24 0 cw8 (tgs (show stc 36 = (8, 6) by decide) (by decide)) (mx7_sack ez6 l) (lw_V q1532 q1457 q1458 q160 q1459) (by decide +kernel) (by decide) rfl rfl (Nat.le_of_ble_eq_true rfl) dX0_spilt_24 rfl ?_
      obtain ⟨z7, ez7, h⟩ := opt_e h
      refine gx_callS (As := [J z6.1]) (rest := []) (st' := [J z7.1]) 27 1 (mj16_bitCount ez7 l) (lw_S q1310 q1311 q187 q1312) (by decide +kernel) (by decide) rfl rfl (Nat.le_of_ble_eq_true rfl) dX0_spilt_27 rfl ?_
      refine gx_aload_n 30 0 dX0_spilt_30 rfl ?_
      obtain ⟨z8, ez8, h⟩ := opt_e h
      refine gx_callV (As := []) (rest := [J z7.1]) (st' := [J z8.1, J z7.1]) 31 0 cw1 (tgs (show stc 0 = (1, 0) by decide) (by decide)) (mx0_sayings ez8 l) (lw_V q1305 q1290 qs33 q147 q1291) (by decide +kernel) (by decide) rfl rfl (Nat.le_of_ble_eq_true rfl) dX0_spilt_31 rfl ?_
      refine gx_icmp_ge 34 39 dX0_spilt_34 (by decide) (fun c9 => ?_) (fun c9 => ?_)
      · replace h := if_t h c9
        refine gx_aload_n 39 0 dX0_spilt_39 rfl ?_
        refine gx_get (t := 1) (k := 10) (v := .ref (ad x0 19)) 40 cw1 (by decide) (tgs (show stc 0 = (1, 0) by decide) (by decide)) q532 same_f (rf_ne (nes (show stc 19 = (7, 0) by decide) (by decide))) dX0_spilt_40 ?_
        refine gx_aload_n 43 0 dX0_spilt_43 rfl ?_
        refine gx_get (t := 1) (k := 11) (v := .ref (ad x0 36)) 44 cw1 (by decide) (tgs (show stc 0 = (1, 0) by decide) (by decide)) q534 same_f (rf_ne (nes (show stc 36 = (8, 6) by decide) (by decide))) dX0_spilt_44 ?_
        obtain ⟨z10, ez10, h⟩ := opt_e h
        refine gx_callV (As := [.ref (ad x0 36)]) (rest := []) (st' := [.ref (ad x0 z10.1)]) 47 1 cw7 (tgs (show stc 19 = (7, 0) by decide) (by decide)) (mx6_by ez10 l) (lw_V q1354 q1355 q1356 q159 q1357) (by decide +kernel) (by decide) rfl rfl (Nat.le_of_ble_eq_true rfl) dX0_spilt_47 rfl ?_
        obtain ⟨g11, h⟩ := gd_e h
        rw [g11]
        obtain ⟨z12, ez12, h⟩ := opt_e h
        refine gx_callV (As := []) (rest := []) (st' := [.ref (ad x0 z12.1)]) 50 0 cw7 (tgs (show stc 19 = (7, 0) by decide) (by decide)) (mx6_spilt ez12 l) (lw_V q1538 q1539 q1540 q159 q1541) (by decide +kernel) (by decide) rfl rfl (Nat.le_of_ble_eq_true rfl) dX0_spilt_50 rfl ?_
        obtain ⟨g13, h⟩ := gd_e h
        rw [g13]
        refine gx_pop 53 dX0_spilt_53 rfl ?_
        refine gx_iload_n 54 1 dX0_spilt_54 rfl ?_
        refine gx_iconst 55 dX0_spilt_55 ?_
        refine gx_icmp_ne 56 69 dX0_spilt_56 (by decide) (fun c14 => ?_) (fun c14 => ?_)
        · replace h := if_f h c14
          refine gx_aload_n 69 0 dX0_spilt_69 rfl ?_
          refine gx_get (t := 1) (k := 10) (v := .ref (ad x0 19)) 70 cw1 (by decide) (tgs (show stc 0 = (1, 0) by decide) (by decide)) q532 same_f (rf_ne (nes (show stc 19 = (7, 0) by decide) (by decide))) dX0_spilt_70 ?_
          refine gx_getN (t := 7) (k := 2) (v := .ref (ad x0 34)) 73 cw7 (by decide) (tgs (show stc 19 = (7, 0) by decide) (by decide)) q433 same_f (rf_ne (nes (show stc 34 = (101, 6) by decide) (by decide))) dX0_spilt_73 ?_
          refine gx_iload_n 76 1 dX0_spilt_76 rfl ?_
          obtain ⟨g15, h⟩ := gd_e h
          refine gx_iald 77 (tgs (show stc 34 = (101, 6) by decide) (by decide)) (oks (show stc 34 = (101, 6) by decide) (by decide) g15) dX0_spilt_77 ?_
          exact gx_iret 78 dX0_spilt_78 (rt h)
        · replace h := if_t h c14
          refine gx_aload_n 59 0 dX0_spilt_59 rfl ?_
          refine gx_get (t := 1) (k := 10) (v := .ref (ad x0 19)) 60 cw1 (by decide) (tgs (show stc 0 = (1, 0) by decide) (by decide)) q532 same_f (rf_ne (nes (show stc 19 = (7, 0) by decide) (by decide))) dX0_spilt_60 ?_
          refine gx_getN (t := 7) (k := 7) (v := J (z12.2 19 7)) 63 cw7 (by decide) (tgs (show stc 19 = (7, 0) by decide) (by decide)) q443 same_f rfl dX0_spilt_63 ?_
          refine gx_goto 66 78 dX0_spilt_66 (by decide) ?_
          exact gx_iret 78 dX0_spilt_78 (rt h)
      · replace h := if_f h c9
        refine gx_iconst 37 dX0_spilt_37 ?_
        exact gx_iret 38 dX0_spilt_38 (rt h)
    refine gx_icmp_eq 9 20 dX0_spilt_9 (by decide) (fun c17 => ?_) (fun c17 => ?_)
    · replace h := if_t h c17
      refine gx_sub [0, 1] rfl ?_
      exact hj16 _ _ h
    · replace h := if_f h c17
      refine gx_aload_n 12 0 dX0_spilt_12 rfl ?_
      refine gx_iload_n 13 1 dX0_spilt_13 rfl ?_
      obtain ⟨z18, ez18, h⟩ := opt_e h
      refine gx_callV (As := [J a1]) (rest := []) (st' := [J z18.1]) 14 1 cw1 (tgs (show stc 0 = (1, 0) by decide) (by decide)) (mx0_isSaying ez18 l) (lw_V q1346 q1348 qs35 q147 q1349) (by decide +kernel) (by decide) rfl rfl (Nat.le_of_ble_eq_true rfl) dX0_spilt_14 rfl ?_
      refine gx_if_eq 17 37 dX0_spilt_17 (by decide) (fun c19 => ?_) (fun c19 => ?_)
      · replace h := if_t h c19
        refine gx_iconst 37 dX0_spilt_37 ?_
        exact gx_iret 38 dX0_spilt_38 (rt h)
      · replace h := if_f h c19
        refine gx_sub [0, 1] rfl ?_
        exact hj16 _ _ h
/-! VerbAtDusk.choose -/
noncomputable def x0_choose (a1 : Int) (a2 : Int) (a3 : Int) (s0 : XS) : Option (Int × XS) :=
  Option.bind (x0_isSaying a1 s0) fun z4 =>
  if i32 z4.1 = 0 then
    some ((-1000000000000000), z4.2)
  else
    Option.bind (x0_isSaying a2 z4.2) fun z6 =>
    if i32 z6.1 = 0 then
      some ((-1000000000000000), z6.2)
    else
      if i32 a1 = i32 a2 then
        some ((-1000000000000000), z6.2)
      else
        Option.bind (x0_is a3 0 1 z6.2) fun z9 =>
        if i32 z9.1 = 0 then
          some ((-1000000000000000), z9.2)
        else
          Option.bind (x6_by 36 z9.2) fun z11 =>
          gd (z11.1 = 19) <|
          gd (ok 6 0) <|
          bnd (ux z11.2 35 (i32 0) (-1)) fun s14 =>
          Option.bind (x7_sack 36 s14) fun z15 =>
          Option.bind (x6_chooses 9 a1 a2 z15.1 0 z15.2) fun z16 =>
          bnd z16.1 fun x4_17 =>
          if i32 a3 = 0 then
            some (x4_17, z16.2)
          else
            gd (ok 6 0) <|
            some ((i32 (z16.2 35 (i32 0))), z16.2)
theorem mx0_choose {x0 : Nat} {D : XD} {a1 : Int} {a2 : Int} {a3 : Int} {s0 : XS} {res : Int × XS} (h : x0_choose a1 a2 a3 s0 = some res) (l : Launch) : XMet0 l yX0_choose cX0_choose 6 (some .long) 711 true x0 D [.ref (ad x0 0), J a1, J a2, J a3] s0 2 res := by
  refine XMet0.ofn [(0, .ref (ad x0 0)), (1, J a1), (2, J a2), (3, J a3)] "VerbAtDusk" "choose" rfl rfl (plainFor_of_name (by decide)) (Nat.le_of_ble_eq_true rfl) rfl ?_
  unfold x0_choose at h
  generalize nC s0 = cN
  generalize nS s0 = sN
  refine gx_aload_n 0 0 dX0_choose_0 rfl ?_
  refine gx_iload_n 1 1 dX0_choose_1 rfl ?_
  obtain ⟨z4, ez4, h⟩ := opt_e h
  refine gx_callV (As := [J a1]) (rest := []) (st' := [J z4.1]) 2 1 cw1 (tgs (show stc 0 = (1, 0) by decide) (by decide)) (mx0_isSaying ez4 l) (lw_V q1346 q1348 qs35 q147 q1349) (by decide +kernel) (by decide) rfl rfl (Nat.le_of_ble_eq_true rfl) dX0_choose_2 rfl ?_
  refine gx_if_eq 5 30 dX0_choose_5 (by decide) (fun c5 => ?_) (fun c5 => ?_)
  · replace h := if_t h c5
    refine gx_ldc2 (v := -1000000000000000) 30 dX0_choose_30 q1507 (by decide) ?_
    exact gx_lret 33 dX0_choose_33 (rt h)
  · replace h := if_f h c5
    refine gx_aload_n 8 0 dX0_choose_8 rfl ?_
    refine gx_iload_n 9 2 dX0_choose_9 rfl ?_
    obtain ⟨z6, ez6, h⟩ := opt_e h
    refine gx_callV (As := [J a2]) (rest := []) (st' := [J z6.1]) 10 1 cw1 (tgs (show stc 0 = (1, 0) by decide) (by decide)) (mx0_isSaying ez6 l) (lw_V q1346 q1348 qs35 q147 q1349) (by decide +kernel) (by decide) rfl rfl (Nat.le_of_ble_eq_true rfl) dX0_choose_10 rfl ?_
    refine gx_if_eq 13 30 dX0_choose_13 (by decide) (fun c7 => ?_) (fun c7 => ?_)
    · replace h := if_t h c7
      refine gx_ldc2 (v := -1000000000000000) 30 dX0_choose_30 q1507 (by decide) ?_
      exact gx_lret 33 dX0_choose_33 (rt h)
    · replace h := if_f h c7
      refine gx_iload_n 16 1 dX0_choose_16 rfl ?_
      refine gx_iload_n 17 2 dX0_choose_17 rfl ?_
      refine gx_icmp_eq 18 30 dX0_choose_18 (by decide) (fun c8 => ?_) (fun c8 => ?_)
      · replace h := if_t h c8
        refine gx_ldc2 (v := -1000000000000000) 30 dX0_choose_30 q1507 (by decide) ?_
        exact gx_lret 33 dX0_choose_33 (rt h)
      · replace h := if_f h c8
        refine gx_iload_n 21 3 dX0_choose_21 rfl ?_
        refine gx_iconst 22 dX0_choose_22 ?_
        refine gx_iconst 23 dX0_choose_23 ?_
        obtain ⟨z9, ez9, h⟩ := opt_e h
        refine gx_callS (As := [J a3, J 0, J 1]) (rest := []) (st' := [J z9.1]) 24 3 (mx0_is ez9 l) (lw_S q1320 q748 q147 q749) (by decide +kernel) (by decide) rfl rfl (Nat.le_of_ble_eq_true rfl) dX0_choose_24 rfl ?_
        refine gx_if_ne 27 34 dX0_choose_27 (by decide) (fun c10 => ?_) (fun c10 => ?_)
        · replace h := if_f h c10
          refine gx_aload_n 34 0 dX0_choose_34 rfl ?_
          refine gx_get (t := 1) (k := 10) (v := .ref (ad x0 19)) 35 cw1 (by decide) (tgs (show stc 0 = (1, 0) by decide) (by decide)) q532 same_f (rf_ne (nes (show stc 19 = (7, 0) by decide) (by decide))) dX0_choose_35 ?_
          refine gx_aload_n 38 0 dX0_choose_38 rfl ?_
          refine gx_get (t := 1) (k := 11) (v := .ref (ad x0 36)) 39 cw1 (by decide) (tgs (show stc 0 = (1, 0) by decide) (by decide)) q534 same_f (rf_ne (nes (show stc 36 = (8, 6) by decide) (by decide))) dX0_choose_39 ?_
          obtain ⟨z11, ez11, h⟩ := opt_e h
          refine gx_callV (As := [.ref (ad x0 36)]) (rest := []) (st' := [.ref (ad x0 z11.1)]) 42 1 cw7 (tgs (show stc 19 = (7, 0) by decide) (by decide)) (mx6_by ez11 l) (lw_V q1354 q1355 q1356 q159 q1357) (by decide +kernel) (by decide) rfl rfl (Nat.le_of_ble_eq_true rfl) dX0_choose_42 rfl ?_
          obtain ⟨g12, h⟩ := gd_e h
          rw [g12]
          refine gx_getN (t := 7) (k := 3) (v := .ref (ad x0 35)) 45 cw7 (by decide) (tgs (show stc 19 = (7, 0) by decide) (by decide)) q435 same_f (rf_ne (nes (show stc 35 = (101, 6) by decide) (by decide))) dX0_choose_45 ?_
          refine gx_iconst 48 dX0_choose_48 ?_
          refine gx_iconst 49 dX0_choose_49 ?_
          obtain ⟨g13, h⟩ := gd_e h
          obtain ⟨s14, es14, h⟩ := bnd_e h
          refine gx_iast 50 (tgs (show stc 35 = (101, 6) by decide) (by decide)) (st0 (show stc 35 = (101, 6) by decide) (by decide)) (stm (show stc 35 = (101, 6) by decide) (by decide)) (oks (show stc 35 = (101, 6) by decide) (by decide) g13) es14 dX0_choose_50 ?_
          refine gx_aload_n 51 0 dX0_choose_51 rfl ?_
          refine gx_get (t := 1) (k := 10) (v := .ref (ad x0 19)) 52 cw1 (by decide) (tgs (show stc 0 = (1, 0) by decide) (by decide)) q532 same_f (rf_ne (nes (show stc 19 = (7, 0) by decide) (by decide))) dX0_choose_52 ?_
          refine gx_iload_n 55 1 dX0_choose_55 rfl ?_
          refine gx_iload_n 56 2 dX0_choose_56 rfl ?_
          refine gx_aload_n 57 0 dX0_choose_57 rfl ?_
          refine gx_get (t := 1) (k := 11) (v := .ref (ad x0 36)) 58 cw1 (by decide) (tgs (show stc 0 = (1, 0) by decide) (by decide)) q534 same_f (rf_ne (nes (show stc 36 = (8, 6) by decide) (by decide))) dX0_choose_58 ?_
          obtain ⟨z15, ez15, h⟩ := opt_e h
          refine gx_callV (As := []) (rest := [J a2, J a1, .ref (ad x0 19)]) (st' := [J z15.1, J a2, J a1, .ref (ad x0 19)]) 61 0 cw8 (tgs (show stc 36 = (8, 6) by decide) (by decide)) (mx7_sack ez15 l) (lw_V q1532 q1457 q1458 q160 q1459) (by decide +kernel) (by decide) rfl rfl (Nat.le_of_ble_eq_true rfl) dX0_choose_61 rfl ?_
          refine gx_iconst 64 dX0_choose_64 ?_
          obtain ⟨z16, ez16, h⟩ := opt_e h
          refine gx_callVN (As := [J a1, J a2, J z15.1, J 0]) (rest := []) (st' := [Lg z16.1]) 65 4 cw7 (tgs (show stc 19 = (7, 0) by decide) (by decide)) (mx6_chooses ez16 l) q1554 q159 q1551 q1553 qs44 (by decide +kernel) (by decide) rfl rfl (Nat.le_of_ble_eq_true rfl) dX0_choose_65 rfl ?_
          obtain ⟨x4_17, ex4_17, h⟩ := bnd_e h
          refine gx_lstore 68 [(4, Lg x4_17), (0, .ref (ad x0 0)), (1, J a1), (2, J a2), (3, J a3)] dX0_choose_68 (by decide) ex4_17 rfl ?_
          refine gx_iload_n 70 4 dX0_choose_70 rfl ?_
          refine gx_if_ne 71 79 dX0_choose_71 (by decide) (fun c18 => ?_) (fun c18 => ?_)
          · replace h := if_f h c18
            refine gx_aload_n 79 1 dX0_choose_79 rfl ?_
            refine gx_get (t := 1) (k := 10) (v := .ref (ad x0 19)) 80 cw1 (by decide) (tgs (show stc 0 = (1, 0) by decide) (by decide)) q532 same_f (rf_ne (nes (show stc 19 = (7, 0) by decide) (by decide))) dX0_choose_80 ?_
            refine gx_getN (t := 7) (k := 3) (v := .ref (ad x0 35)) 83 cw7 (by decide) (tgs (show stc 19 = (7, 0) by decide) (by decide)) q435 same_f (rf_ne (nes (show stc 35 = (101, 6) by decide) (by decide))) dX0_choose_83 ?_
            refine gx_iconst 86 dX0_choose_86 ?_
            obtain ⟨g19, h⟩ := gd_e h
            refine gx_iald 87 (tgs (show stc 35 = (101, 6) by decide) (by decide)) (oks (show stc 35 = (101, 6) by decide) (by decide) g19) dX0_choose_87 ?_
            refine gx_i2l 88 dX0_choose_88 ?_
            exact gx_lret 89 dX0_choose_89 (rt h)
          · replace h := if_t h c18
            refine gx_lload 74 0 dX0_choose_74 rfl ?_
            refine gx_goto 76 89 dX0_choose_76 (by decide) ?_
            exact gx_lret 89 dX0_choose_89 (rt h)
        · replace h := if_t h c10
          refine gx_ldc2 (v := -1000000000000000) 30 dX0_choose_30 q1507 (by decide) ?_
          exact gx_lret 33 dX0_choose_33 (rt h)
/-! VerbAtDusk.asked -/
noncomputable def x0_asked_L56 (k130 : Int → Int → XS → Option (Int × XS)) : Nat → Int → Int → Int → XS → Option (Int × XS)
  | 0, _, _, _, _ => none
  | n + 1, x1_23, x2_24, x3_25, s26 =>
    Option.bind (x0_sayings s26) fun z30 =>
    if i32 z30.1 ≤ i32 x3_25 then
      k130 x1_23 x2_24 z30.2
    else
      Option.bind (x0_has x2_24 x3_25 z30.2) fun z32 =>
      bnd (fun (x1_33 : Int) (x2_34 : Int) (x3_35 : Int) (w36 : Int) (w37 : Int) (s38 : XS) =>
          gd (ok 6 w37) <|
          bnd (ux s38 100 (i32 w37) w36) fun s40 =>
          Option.bind (x0_has x2_34 x3_35 s40) fun z41 =>
          bnd (fun (x1_42 : Int) (x2_43 : Int) (x3_44 : Int) (w45 : Int) (w46 : Int) (s47 : XS) =>
              gd (ok 6 w46) <|
              bnd (ux s47 101 (i32 w46) w45) fun s49 =>
              bnd (x3_44 + 1) fun x3_50 =>
              x0_asked_L56 k130 n x1_42 x2_43 x3_50 s49) fun j51 =>
          if i32 z41.1 = 0 then
            gd (ok 6 x3_35) <|
            j51 x1_33 x2_34 x3_35 (z41.2 38 (i32 x3_35)) x3_35 z41.2
          else
            j51 x1_33 x2_34 x3_35 0 x3_35 z41.2) fun j54 =>
      if i32 z32.1 = 0 then
        gd (ok 6 x3_25) <|
        j54 x1_23 x2_24 x3_25 (z32.2 37 (i32 x3_25)) x3_25 z32.2
      else
        j54 x1_23 x2_24 x3_25 0 x3_25 z32.2
noncomputable def x0_asked_L13 (k155 : Int → XS → Option (Int × XS)) : Nat → Int → Int → XS → Option (Int × XS)
  | 0, _, _, _ => none
  | n + 1, x1_5, x2_6, s7 =>
    Option.bind (x0_sayings s7) fun z10 =>
    if i32 (ishl 1 z10.1) ≤ i32 x2_6 then
      k155 x1_5 z10.2
    else
      bnd (fun (x1_12 : Int) (x2_13 : Int) (s14 : XS) =>
          bnd (x2_13 + 1) fun x2_15 =>
          x0_asked_L13 k155 n x1_12 x2_15 s14) fun j16 =>
      bnd (fun (x1_17 : Int) (x2_18 : Int) (s19 : XS) =>
          Option.bind (x7_copy 99 36 s19) fun z20 =>
          gd (z20.1 = 99) <|
          bnd 0 fun x3_22 =>
          x0_asked_L56
            (fun (x1_57 : Int) (x2_58 : Int) (s59 : XS) =>
              Option.bind (x5_by 99 s59) fun z60 =>
              gd (z60.1 = 14) <|
              Option.bind (x5_dark z60.2) fun z62 =>
              if i32 z62.1 = 0 then
                j16 x2_58 x2_58 z62.2
              else
                j16 x1_57 x2_58 z62.2)
            FU x1_17 x2_18 x3_22 z20.2) fun j64 =>
      if i32 x1_5 = i32 (-1) then
        j64 x1_5 x2_6 z10.2
      else
        Option.bind (j16_bitCount true x2_6 z10.2) fun z66 =>
        Option.bind (j16_bitCount true x1_5 z66.2) fun z67 =>
        if i32 z66.1 < i32 z67.1 then
          j64 x1_5 x2_6 z67.2
        else
          j16 x1_5 x2_6 z67.2
noncomputable def x0_asked (s0 : XS) : Option (Int × XS) :=
  Option.bind (x0_isCountry s0) fun z1 =>
  if i32 z1.1 = 0 then
    some ((-1), z1.2)
  else
    bnd (-1) fun x1_3 =>
    bnd 0 fun x2_4 =>
    x0_asked_L13
      (fun (x1_69 : Int) (s70 : XS) =>
        some (x1_69, s70))
      FU x1_3 x2_4 z1.2
theorem wx0_asked_L56 {l : Launch} {x0 : Nat} {D : XD} {cN sN : Nat} {res : Int × XS} {k130 : Int → Int → XS → Option (Int × XS)} (hk130 : ∀ (x1_27 : Int) (x2_28 : Int) (s29 : XS), k130 x1_27 x2_28 s29 = some res → GX l cX0_asked "VerbAtDusk" 4 (some .int) "asked" [] x0 D true 1 29 cN sN (0, res) s29 130 [(0, .ref (ad x0 0)), (1, J x1_27), (2, J x2_28)] []) : ∀ (n : Nat) (x1_23 : Int) (x2_24 : Int) (x3_25 : Int) (s26 : XS), x0_asked_L56 k130 n x1_23 x2_24 x3_25 s26 = some res → GX l cX0_asked "VerbAtDusk" 4 (some .int) "asked" [] x0 D true 1 29 cN sN (0, res) s26 56 [(0, .ref (ad x0 0)), (1, J x1_23), (2, J x2_24), (3, J x3_25)] [] := by
  intro n
  induction n with
  | zero =>
    intro x1_23 x2_24 x3_25 s26 h
    cases h
  | succ n ih =>
    intro x1_23 x2_24 x3_25 s26 h
    rw [x0_asked_L56] at h
    refine gx_iload_n 56 3 dX0_asked_56 rfl ?_
    refine gx_aload_n 57 0 dX0_asked_57 rfl ?_
    obtain ⟨z30, ez30, h⟩ := opt_e h
    refine gx_callV (As := []) (rest := [J x3_25]) (st' := [J z30.1, J x3_25]) 58 0 cw1 (tgs (show stc 0 = (1, 0) by decide) (by decide)) (mx0_sayings ez30 l) (lw_V q1305 q1290 qs33 q147 q1291) (by decide +kernel) (by decide) rfl rfl (Nat.le_of_ble_eq_true rfl) dX0_asked_58 rfl ?_
    refine gx_icmp_ge 61 130 dX0_asked_61 (by decide) (fun c31 => ?_) (fun c31 => ?_)
    · replace h := if_t h c31
      refine gx_sub [0, 1, 2] rfl ?_
      exact hk130 _ _ _ h
    · replace h := if_f h c31
      refine gx_aload_n 64 0 dX0_asked_64 rfl ?_
      refine gx_get (t := 1) (k := 12) (v := .ref (ad x0 99)) 65 cw1 (by decide) (tgs (show stc 0 = (1, 0) by decide) (by decide)) q535 same_f (rf_ne (nes (show stc 99 = (8, 6) by decide) (by decide))) dX0_asked_65 ?_
      refine gx_getN (t := 8) (k := 3) (v := .ref (ad x0 100)) 68 cw8 (by decide) (tgs (show stc 99 = (8, 6) by decide) (by decide)) q481 same_f (rf_ne (nes (show stc 100 = (101, 6) by decide) (by decide))) dX0_asked_68 ?_
      refine gx_iload_n 71 3 dX0_asked_71 rfl ?_
      refine gx_iload_n 72 2 dX0_asked_72 rfl ?_
      refine gx_iload_n 73 3 dX0_asked_73 rfl ?_
      obtain ⟨z32, ez32, h⟩ := opt_e h
      refine gx_callS (As := [J x2_24, J x3_25]) (rest := [J x3_25, .ref (ad x0 100)]) (st' := [J z32.1, J x3_25, .ref (ad x0 100)]) 74 2 (mx0_has ez32 l) (lw_S q1488 q1010 q147 q1011) (by decide +kernel) (by decide) rfl rfl (Nat.le_of_ble_eq_true rfl) dX0_asked_74 rfl ?_
      obtain ⟨j54, ej54, h⟩ := bnd_e h
      have hj54 : ∀ (x1_33 : Int) (x2_34 : Int) (x3_35 : Int) (w36 : Int) (w37 : Int) (s38 : XS), j54 x1_33 x2_34 x3_35 w36 w37 s38 = some res → GX l cX0_asked "VerbAtDusk" 4 (some .int) "asked" [] x0 D true 1 29 cN sN (0, res) s38 93 [(0, .ref (ad x0 0)), (1, J x1_33), (2, J x2_34), (3, J x3_35)] [J w36, J w37, .ref (ad x0 100)] := by
        clear h
        intro x1_33 x2_34 x3_35 w36 w37 s38 h
        subst ej54
        obtain ⟨g39, h⟩ := gd_e h
        obtain ⟨s40, es40, h⟩ := bnd_e h
        refine gx_iast 93 (tgs (show stc 100 = (101, 6) by decide) (by decide)) (st0 (show stc 100 = (101, 6) by decide) (by decide)) (stm (show stc 100 = (101, 6) by decide) (by decide)) (oks (show stc 100 = (101, 6) by decide) (by decide) g39) es40 dX0_asked_93 ?_
        refine gx_aload_n 94 0 dX0_asked_94 rfl ?_
        refine gx_get (t := 1) (k := 12) (v := .ref (ad x0 99)) 95 cw1 (by decide) (tgs (show stc 0 = (1, 0) by decide) (by decide)) q535 same_f (rf_ne (nes (show stc 99 = (8, 6) by decide) (by decide))) dX0_asked_95 ?_
        refine gx_getN (t := 8) (k := 4) (v := .ref (ad x0 101)) 98 cw8 (by decide) (tgs (show stc 99 = (8, 6) by decide) (by decide)) q484 same_f (rf_ne (nes (show stc 101 = (101, 6) by decide) (by decide))) dX0_asked_98 ?_
        refine gx_iload_n 101 3 dX0_asked_101 rfl ?_
        refine gx_iload_n 102 2 dX0_asked_102 rfl ?_
        refine gx_iload_n 103 3 dX0_asked_103 rfl ?_
        obtain ⟨z41, ez41, h⟩ := opt_e h
        refine gx_callS (As := [J x2_34, J x3_35]) (rest := [J x3_35, .ref (ad x0 101)]) (st' := [J z41.1, J x3_35, .ref (ad x0 101)]) 104 2 (mx0_has ez41 l) (lw_S q1488 q1010 q147 q1011) (by decide +kernel) (by decide) rfl rfl (Nat.le_of_ble_eq_true rfl) dX0_asked_104 rfl ?_
        obtain ⟨j51, ej51, h⟩ := bnd_e h
        have hj51 : ∀ (x1_42 : Int) (x2_43 : Int) (x3_44 : Int) (w45 : Int) (w46 : Int) (s47 : XS), j51 x1_42 x2_43 x3_44 w45 w46 s47 = some res → GX l cX0_asked "VerbAtDusk" 4 (some .int) "asked" [] x0 D true 1 29 cN sN (0, res) s47 123 [(0, .ref (ad x0 0)), (1, J x1_42), (2, J x2_43), (3, J x3_44)] [J w45, J w46, .ref (ad x0 101)] := by
          clear h
          intro x1_42 x2_43 x3_44 w45 w46 s47 h
          subst ej51
          obtain ⟨g48, h⟩ := gd_e h
          obtain ⟨s49, es49, h⟩ := bnd_e h
          refine gx_iast 123 (tgs (show stc 101 = (101, 6) by decide) (by decide)) (st0 (show stc 101 = (101, 6) by decide) (by decide)) (stm (show stc 101 = (101, 6) by decide) (by decide)) (oks (show stc 101 = (101, 6) by decide) (by decide) g48) es49 dX0_asked_123 ?_
          obtain ⟨x3_50, ex3_50, h⟩ := bnd_e h
          refine gx_iinc 124 3 [(3, J x3_50), (0, .ref (ad x0 0)), (1, J x1_42), (2, J x2_43)] dX0_asked_124 rfl ex3_50 (by decide) rfl ?_
          refine gx_goto 127 56 dX0_asked_127 (by decide) ?_
          refine gx_sub [1, 2, 3, 0] rfl ?_
          exact ih _ _ _ _ h
        refine gx_if_eq 107 114 dX0_asked_107 (by decide) (fun c52 => ?_) (fun c52 => ?_)
        · replace h := if_t h c52
          refine gx_aload_n 114 0 dX0_asked_114 rfl ?_
          refine gx_get (t := 1) (k := 11) (v := .ref (ad x0 36)) 115 cw1 (by decide) (tgs (show stc 0 = (1, 0) by decide) (by decide)) q534 same_f (rf_ne (nes (show stc 36 = (8, 6) by decide) (by decide))) dX0_asked_115 ?_
          refine gx_getN (t := 8) (k := 4) (v := .ref (ad x0 38)) 118 cw8 (by decide) (tgs (show stc 36 = (8, 6) by decide) (by decide)) q484 same_f (rf_ne (nes (show stc 38 = (101, 6) by decide) (by decide))) dX0_asked_118 ?_
          refine gx_iload_n 121 3 dX0_asked_121 rfl ?_
          obtain ⟨g53, h⟩ := gd_e h
          refine gx_iald 122 (tgs (show stc 38 = (101, 6) by decide) (by decide)) (oks (show stc 38 = (101, 6) by decide) (by decide) g53) dX0_asked_122 ?_
          refine gx_sub [0, 1, 2, 3] rfl ?_
          exact hj51 _ _ _ _ _ _ h
        · replace h := if_f h c52
          refine gx_iconst 110 dX0_asked_110 ?_
          refine gx_goto 111 123 dX0_asked_111 (by decide) ?_
          refine gx_sub [0, 1, 2, 3] rfl ?_
          exact hj51 _ _ _ _ _ _ h
      refine gx_if_eq 77 84 dX0_asked_77 (by decide) (fun c55 => ?_) (fun c55 => ?_)
      · replace h := if_t h c55
        refine gx_aload_n 84 0 dX0_asked_84 rfl ?_
        refine gx_get (t := 1) (k := 11) (v := .ref (ad x0 36)) 85 cw1 (by decide) (tgs (show stc 0 = (1, 0) by decide) (by decide)) q534 same_f (rf_ne (nes (show stc 36 = (8, 6) by decide) (by decide))) dX0_asked_85 ?_
        refine gx_getN (t := 8) (k := 3) (v := .ref (ad x0 37)) 88 cw8 (by decide) (tgs (show stc 36 = (8, 6) by decide) (by decide)) q481 same_f (rf_ne (nes (show stc 37 = (101, 6) by decide) (by decide))) dX0_asked_88 ?_
        refine gx_iload_n 91 3 dX0_asked_91 rfl ?_
        obtain ⟨g56, h⟩ := gd_e h
        refine gx_iald 92 (tgs (show stc 37 = (101, 6) by decide) (by decide)) (oks (show stc 37 = (101, 6) by decide) (by decide) g56) dX0_asked_92 ?_
        refine gx_sub [0, 1, 2, 3] rfl ?_
        exact hj54 _ _ _ _ _ _ h
      · replace h := if_f h c55
        refine gx_iconst 80 dX0_asked_80 ?_
        refine gx_goto 81 93 dX0_asked_81 (by decide) ?_
        refine gx_sub [0, 1, 2, 3] rfl ?_
        exact hj54 _ _ _ _ _ _ h
theorem wx0_asked_L13 {l : Launch} {x0 : Nat} {D : XD} {cN sN : Nat} {res : Int × XS} {k155 : Int → XS → Option (Int × XS)} (hk155 : ∀ (x1_8 : Int) (s9 : XS), k155 x1_8 s9 = some res → GX l cX0_asked "VerbAtDusk" 4 (some .int) "asked" [] x0 D true 1 29 cN sN (0, res) s9 155 [(1, J x1_8)] []) : ∀ (n : Nat) (x1_5 : Int) (x2_6 : Int) (s7 : XS), x0_asked_L13 k155 n x1_5 x2_6 s7 = some res → GX l cX0_asked "VerbAtDusk" 4 (some .int) "asked" [] x0 D true 1 29 cN sN (0, res) s7 13 [(0, .ref (ad x0 0)), (1, J x1_5), (2, J x2_6)] [] := by
  intro n
  induction n with
  | zero =>
    intro x1_5 x2_6 s7 h
    cases h
  | succ n ih =>
    intro x1_5 x2_6 s7 h
    rw [x0_asked_L13] at h
    refine gx_iload_n 13 2 dX0_asked_13 rfl ?_
    refine gx_iconst 14 dX0_asked_14 ?_
    refine gx_aload_n 15 0 dX0_asked_15 rfl ?_
    obtain ⟨z10, ez10, h⟩ := opt_e h
    refine gx_callV (As := []) (rest := [J 1, J x2_6]) (st' := [J z10.1, J 1, J x2_6]) 16 0 cw1 (tgs (show stc 0 = (1, 0) by decide) (by decide)) (mx0_sayings ez10 l) (lw_V q1305 q1290 qs33 q147 q1291) (by decide +kernel) (by decide) rfl rfl (Nat.le_of_ble_eq_true rfl) dX0_asked_16 rfl ?_
    refine gx_ishl 19 dX0_asked_19 ?_
    refine gx_icmp_ge 20 155 dX0_asked_20 (by decide) (fun c11 => ?_) (fun c11 => ?_)
    · replace h := if_t h c11
      refine gx_sub [1] rfl ?_
      exact hk155 _ _ h
    · replace h := if_f h c11
      refine gx_iload_n 23 1 dX0_asked_23 rfl ?_
      refine gx_iconst 24 dX0_asked_24 ?_
      obtain ⟨j16, ej16, h⟩ := bnd_e h
      have hj16 : ∀ (x1_12 : Int) (x2_13 : Int) (s14 : XS), j16 x1_12 x2_13 s14 = some res → GX l cX0_asked "VerbAtDusk" 4 (some .int) "asked" [] x0 D true 1 29 cN sN (0, res) s14 149 [(0, .ref (ad x0 0)), (1, J x1_12), (2, J x2_13)] [] := by
        clear h
        intro x1_12 x2_13 s14 h
        subst ej16
        obtain ⟨x2_15, ex2_15, h⟩ := bnd_e h
        refine gx_iinc 149 2 [(2, J x2_15), (0, .ref (ad x0 0)), (1, J x1_12)] dX0_asked_149 rfl ex2_15 (by decide) rfl ?_
        refine gx_goto 152 13 dX0_asked_152 (by decide) ?_
        refine gx_sub [1, 2, 0] rfl ?_
        exact ih _ _ _ h
      obtain ⟨j64, ej64, h⟩ := bnd_e h
      have hj64 : ∀ (x1_17 : Int) (x2_18 : Int) (s19 : XS), j64 x1_17 x2_18 s19 = some res → GX l cX0_asked "VerbAtDusk" 4 (some .int) "asked" [] x0 D true 1 29 cN sN (0, res) s19 42 [(0, .ref (ad x0 0)), (1, J x1_17), (2, J x2_18)] [] := by
        clear h
        intro x1_17 x2_18 s19 h
        subst ej64
        refine gx_aload_n 42 0 dX0_asked_42 rfl ?_
        refine gx_get (t := 1) (k := 12) (v := .ref (ad x0 99)) 43 cw1 (by decide) (tgs (show stc 0 = (1, 0) by decide) (by decide)) q535 same_f (rf_ne (nes (show stc 99 = (8, 6) by decide) (by decide))) dX0_asked_43 ?_
        refine gx_aload_n 46 0 dX0_asked_46 rfl ?_
        refine gx_get (t := 1) (k := 11) (v := .ref (ad x0 36)) 47 cw1 (by decide) (tgs (show stc 0 = (1, 0) by decide) (by decide)) q534 same_f (rf_ne (nes (show stc 36 = (8, 6) by decide) (by decide))) dX0_asked_47 ?_
        obtain ⟨z20, ez20, h⟩ := opt_e h
        refine gx_callV (As := [.ref (ad x0 36)]) (rest := []) (st' := [.ref (ad x0 z20.1)]) 50 1 cw8 (tgs (show stc 99 = (8, 6) by decide) (by decide)) (mx7_copy ez20 l) (lw_V q1560 q1561 q1562 q160 q1563) (by decide +kernel) (by decide) rfl rfl (Nat.le_of_ble_eq_true rfl) dX0_asked_50 rfl ?_
        obtain ⟨g21, h⟩ := gd_e h
        rw [g21]
        refine gx_pop 53 dX0_asked_53 rfl ?_
        refine gx_iconst 54 dX0_asked_54 ?_
        obtain ⟨x3_22, ex3_22, h⟩ := bnd_e h
        refine gx_istore_n 55 [(3, J x3_22), (0, .ref (ad x0 0)), (1, J x1_17), (2, J x2_18)] dX0_asked_55 (by decide) ex3_22 rfl ?_
        refine gx_sub [1, 2, 3, 0] rfl ?_
        refine wx0_asked_L56 (fun x1_57 x2_58 s59 h => ?_) FU _ _ _ _ h
        · refine gx_aload_n 130 0 dX0_asked_130 rfl ?_
          refine gx_get (t := 1) (k := 9) (v := .ref (ad x0 14)) 131 cw1 (by decide) (tgs (show stc 0 = (1, 0) by decide) (by decide)) q530 same_f (rf_ne (nes (show stc 14 = (6, 0) by decide) (by decide))) dX0_asked_131 ?_
          refine gx_aload_n 134 0 dX0_asked_134 rfl ?_
          refine gx_get (t := 1) (k := 12) (v := .ref (ad x0 99)) 135 cw1 (by decide) (tgs (show stc 0 = (1, 0) by decide) (by decide)) q535 same_f (rf_ne (nes (show stc 99 = (8, 6) by decide) (by decide))) dX0_asked_135 ?_
          obtain ⟨z60, ez60, h⟩ := opt_e h
          refine gx_callV (As := [.ref (ad x0 99)]) (rest := []) (st' := [.ref (ad x0 z60.1)]) 138 1 cw6 (tgs (show stc 14 = (6, 0) by decide) (by decide)) (mx5_by ez60 l) (lw_V q1470 q1471 q1472 q158 q1473) (by decide +kernel) (by decide) rfl rfl (Nat.le_of_ble_eq_true rfl) dX0_asked_138 rfl ?_
          obtain ⟨g61, h⟩ := gd_e h
          rw [g61]
          obtain ⟨z62, ez62, h⟩ := opt_e h
          refine gx_callV (As := []) (rest := []) (st' := [J z62.1]) 141 0 cw6 (tgs (show stc 14 = (6, 0) by decide) (by decide)) (mx5_dark ez62 l) (lw_V q1484 q1485 q1486 q158 q1487) (by decide +kernel) (by decide) rfl rfl (Nat.le_of_ble_eq_true rfl) dX0_asked_141 rfl ?_
          refine gx_if_ne 144 149 dX0_asked_144 (by decide) (fun c63 => ?_) (fun c63 => ?_)
          · replace h := if_f h c63
            refine gx_sub [0, 1, 2] rfl ?_
            exact hj16 _ _ _ h
          · replace h := if_t h c63
            refine gx_iload_n 147 2 dX0_asked_147 rfl ?_
            refine gx_istore_n 148 [(1, J x2_58), (0, .ref (ad x0 0)), (2, J x2_58)] dX0_asked_148 (by decide) rfl rfl ?_
            refine gx_sub [1, 0, 2] rfl ?_
            exact hj16 _ _ _ h
      refine gx_icmp_eq 25 42 dX0_asked_25 (by decide) (fun c65 => ?_) (fun c65 => ?_)
      · replace h := if_t h c65
        refine gx_sub [0, 1, 2] rfl ?_
        exact hj64 _ _ _ h
      · replace h := if_f h c65
        refine gx_iload_n 28 2 dX0_asked_28 rfl ?_
        obtain ⟨z66, ez66, h⟩ := opt_e h
        refine gx_callS (As := [J x2_6]) (rest := []) (st' := [J z66.1]) 29 1 (mj16_bitCount ez66 l) (lw_S q1310 q1311 q187 q1312) (by decide +kernel) (by decide) rfl rfl (Nat.le_of_ble_eq_true rfl) dX0_asked_29 rfl ?_
        refine gx_iload_n 32 1 dX0_asked_32 rfl ?_
        obtain ⟨z67, ez67, h⟩ := opt_e h
        refine gx_callS (As := [J x1_5]) (rest := [J z66.1]) (st' := [J z67.1, J z66.1]) 33 1 (mj16_bitCount ez67 l) (lw_S q1310 q1311 q187 q1312) (by decide +kernel) (by decide) rfl rfl (Nat.le_of_ble_eq_true rfl) dX0_asked_33 rfl ?_
        refine gx_icmp_lt 36 42 dX0_asked_36 (by decide) (fun c68 => ?_) (fun c68 => ?_)
        · replace h := if_t h c68
          refine gx_sub [0, 1, 2] rfl ?_
          exact hj64 _ _ _ h
        · replace h := if_f h c68
          refine gx_goto 39 149 dX0_asked_39 (by decide) ?_
          refine gx_sub [0, 1, 2] rfl ?_
          exact hj16 _ _ _ h
theorem mx0_asked {x0 : Nat} {D : XD} {s0 : XS} {res : Int × XS} (h : x0_asked s0 = some res) (l : Launch) : XMet0 l yX0_asked cX0_asked 4 (some .int) 29 true x0 D [.ref (ad x0 0)] s0 1 res := by
  refine XMet0.ofn [(0, .ref (ad x0 0))] "VerbAtDusk" "asked" rfl rfl (plainFor_of_name (by decide)) (Nat.le_of_ble_eq_true rfl) rfl ?_
  unfold x0_asked at h
  generalize nC s0 = cN
  generalize nS s0 = sN
  refine gx_aload_n 0 0 dX0_asked_0 rfl ?_
  obtain ⟨z1, ez1, h⟩ := opt_e h
  refine gx_callV (As := []) (rest := []) (st' := [J z1.1]) 1 0 cw1 (tgs (show stc 0 = (1, 0) by decide) (by decide)) (mx0_isCountry ez1 l) (lw_V q1516 q1518 qs42 q147 q1519) (by decide +kernel) (by decide) rfl rfl (Nat.le_of_ble_eq_true rfl) dX0_asked_1 rfl ?_
  refine gx_if_ne 4 9 dX0_asked_4 (by decide) (fun c2 => ?_) (fun c2 => ?_)
  · replace h := if_f h c2
    refine gx_iconst 9 dX0_asked_9 ?_
    obtain ⟨x1_3, ex1_3, h⟩ := bnd_e h
    refine gx_istore_n 10 [(1, J x1_3), (0, .ref (ad x0 0))] dX0_asked_10 (by decide) ex1_3 rfl ?_
    refine gx_iconst 11 dX0_asked_11 ?_
    obtain ⟨x2_4, ex2_4, h⟩ := bnd_e h
    refine gx_istore_n 12 [(2, J x2_4), (1, J x1_3), (0, .ref (ad x0 0))] dX0_asked_12 (by decide) ex2_4 rfl ?_
    refine gx_sub [2, 1, 0] rfl ?_
    refine wx0_asked_L13 (fun x1_69 s70 h => ?_) FU _ _ _ h
    · refine gx_iload_n 155 0 dX0_asked_155 rfl ?_
      exact gx_iret 156 dX0_asked_156 (rt h)
  · replace h := if_t h c2
    refine gx_iconst 7 dX0_asked_7 ?_
    exact gx_iret 8 dX0_asked_8 (rt h)
