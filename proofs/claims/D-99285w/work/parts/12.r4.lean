/-! THE SYSTEM: methods as functions, and their walks (written by xparts.py) -/
set_option maxRecDepth 100000
/-! VerbAtDusk$Reader.product -/
noncomputable def x2_product_L20 (rc : XS → Option RX) (k73 : Int → XS → Option RX) : Nat → Int → Int → XS → Option RX
  | 0, _, _, _ => none
  | n + 1, x1_10, x2_11, s12 =>
    if i32 x2_11 = 0 then
      k73 x1_10 s12
    else
      Option.bind (x2_takes 42 s12) fun z16 =>
      if i32 z16.1 = 0 then
        Option.bind (x2_takes 47 z16.2) fun z18 =>
        if i32 z18.1 = 0 then
          bnd 0 fun x2_20 =>
          x2_product_L20 rc k73 n x1_10 x2_20 z18.2
        else
          Option.bind (rc z18.2) fun z21 =>
          if z21.1 = 0 then
          gd (tg true z21.2.2 x1_10 = 14) <|
          Option.bind (x17_add true x1_10 47 z21.2.1 z21.2.2) fun z23 =>
          x2_product_L20 rc k73 n x1_10 x2_11 z23.2
          else some (1, 0, z21.2.2)
      else
        Option.bind (rc z16.2) fun z25 =>
        if z25.1 = 0 then
        gd (tg true z25.2.2 x1_10 = 14) <|
        Option.bind (x17_add true x1_10 42 z25.2.1 z25.2.2) fun z27 =>
        x2_product_L20 rc k73 n x1_10 x2_11 z27.2
        else some (1, 0, z25.2.2)
noncomputable def x2_product (rc : XS → Option RX) (s0 : XS) : Option RX :=
  gd (0 ≤ s0 (-1) 0 ∧ 0 ≤ s0 (-1) 1) <|
  bnd (nwx s0 14 0 2 (dfl 14)) fun s2 =>
  Option.bind (x17_init true (s0 (-1) 0) s2) fun z3 =>
  bnd (s0 (-1) 0) fun x1_4 =>
  Option.bind (rc z3.2) fun z5 =>
  if z5.1 = 0 then
  gd (tg true z5.2.2 x1_4 = 14) <|
  Option.bind (x17_add true x1_4 42 z5.2.1 z5.2.2) fun z7 =>
  bnd 1 fun x2_9 =>
  x2_product_L20 rc
    (fun (x1_29 : Int) (s30 : XS) =>
      some (0, x1_29, s30))
    FU x1_4 x2_9 z7.2
  else some (1, 0, z5.2.2)
theorem wx2_product_L20 {l : Launch} {x0 : Nat} {D : XD} {cN sN : Nat} {res : RX} {rc : XS → Option RX} {d : Nat} (hrc : ∀ (t_ : XS) (z_ : RX), rc  t_ = some z_ → XMet l yX2_atom cX2_atom 3 (some (.object "VerbAtDusk$Value")) d true x0 D [.ref (ad x0 7)] t_ 3 z_) {k73 : Int → XS → Option RX} (hk73 : ∀ (x1_13 : Int) (s14 : XS), k73 x1_13 s14 = some res → GX l cX2_product "VerbAtDusk$Reader" 3 (some (.object "VerbAtDusk$Value")) "product" [] x0 D true 3 (d + 9) cN sN res s14 73 [(1, .ref (ad x0 x1_13))] []) : ∀ (n : Nat) (x1_10 : Int) (x2_11 : Int) (s12 : XS), x2_product_L20 rc k73 n x1_10 x2_11 s12 = some res → GX l cX2_product "VerbAtDusk$Reader" 3 (some (.object "VerbAtDusk$Value")) "product" [] x0 D true 3 (d + 9) cN sN res s12 20 [(0, .ref (ad x0 7)), (1, .ref (ad x0 x1_10)), (2, J x2_11)] [] := by
  intro n
  induction n with
  | zero =>
    intro x1_10 x2_11 s12 h
    cases h
  | succ n ih =>
    intro x1_10 x2_11 s12 h
    rw [x2_product_L20] at h
    refine gx_iload_n 20 2 dX2_product_20 rfl ?_
    refine gx_if_eq 21 73 dX2_product_21 (by decide) (fun c15 => ?_) (fun c15 => ?_)
    · replace h := if_t h c15
      refine gx_sub [1] rfl ?_
      exact hk73 _ _ h
    · replace h := if_f h c15
      refine gx_aload_n 24 0 dX2_product_24 rfl ?_
      refine gx_bipush 25 dX2_product_25 (by decide) ?_
      obtain ⟨z16, ez16, h⟩ := opt_e h
      refine gx_callV (As := [J 42]) (rest := []) (st' := [J z16.1]) 27 1 cw3 (tgs (show stc 7 = (3, 0) by decide) (by decide)) (mx2_takes ez16 l) (lw_V q1258 q1260 qs31 q152 q1261) (by decide +kernel) (by omega) rfl rfl (Nat.le_of_ble_eq_true rfl) dX2_product_27 rfl ?_
      refine gx_if_eq 30 46 dX2_product_30 (by decide) (fun c17 => ?_) (fun c17 => ?_)
      · replace h := if_t h c17
        refine gx_aload_n 46 0 dX2_product_46 rfl ?_
        refine gx_bipush 47 dX2_product_47 (by decide) ?_
        obtain ⟨z18, ez18, h⟩ := opt_e h
        refine gx_callV (As := [J 47]) (rest := []) (st' := [J z18.1]) 49 1 cw3 (tgs (show stc 7 = (3, 0) by decide) (by decide)) (mx2_takes ez18 l) (lw_V q1258 q1260 qs31 q152 q1261) (by decide +kernel) (by omega) rfl rfl (Nat.le_of_ble_eq_true rfl) dX2_product_49 rfl ?_
        refine gx_if_eq 52 68 dX2_product_52 (by decide) (fun c19 => ?_) (fun c19 => ?_)
        · replace h := if_t h c19
          refine gx_iconst 68 dX2_product_68 ?_
          obtain ⟨x2_20, ex2_20, h⟩ := bnd_e h
          refine gx_istore_n 69 [(2, J x2_20), (0, .ref (ad x0 7)), (1, .ref (ad x0 x1_10))] dX2_product_69 (by decide) ex2_20 rfl ?_
          refine gx_goto 70 20 dX2_product_70 (by decide) ?_
          refine gx_sub [1, 2, 0] rfl ?_
          exact ih _ _ _ h
        · replace h := if_f h c19
          refine gx_aload_n 55 1 dX2_product_55 rfl ?_
          refine gx_bipush 56 dX2_product_56 (by decide) ?_
          refine gx_aload_n 58 0 dX2_product_58 rfl ?_
          obtain ⟨z21, ez21, h⟩ := opt_e h
          by_cases c22 : z21.1 = 0
          rotate_left
          · replace h := if_f h c22
            exact gx_callTX (As := []) (rest := [J 47, .ref (ad x0 x1_10)]) 59 0 rfl cw3 (tgs (show stc 7 = (3, 0) by decide) (by decide)) c22 (hrc  _ _ ez21) (lw_V q1127 q1129 qs28 q152 q1130) (by decide +kernel) (by omega) rfl rfl (Nat.le_of_ble_eq_true rfl) dX2_product_59 h
          replace h := if_t h c22
          refine gx_callT (As := []) (rest := [J 47, .ref (ad x0 x1_10)]) (st' := [.ref (ad x0 z21.2.1), J 47, .ref (ad x0 x1_10)]) 59 0 cw3 (tgs (show stc 7 = (3, 0) by decide) (by decide)) c22 (hrc  _ _ ez21) (lw_V q1127 q1129 qs28 q152 q1130) (by decide +kernel) (by omega) rfl rfl (Nat.le_of_ble_eq_true rfl) dX2_product_59 rfl ?_
          obtain ⟨g24, h⟩ := gd_e h
          obtain ⟨z23, ez23, h⟩ := opt_e h
          refine gx_callV (As := [J 47, .ref (ad x0 z21.2.1)]) (rest := []) (st' := []) 62 2 cw14 g24 (mx17_add ez23 l) (lw_V q1197 q1198 q1199 q179 q1200) (by decide +kernel) (by omega) rfl rfl (Nat.le_of_ble_eq_true rfl) dX2_product_62 rfl ?_
          refine gx_goto 65 20 dX2_product_65 (by decide) ?_
          refine gx_sub [0, 1, 2] rfl ?_
          exact ih _ _ _ h
      · replace h := if_f h c17
        refine gx_aload_n 33 1 dX2_product_33 rfl ?_
        refine gx_bipush 34 dX2_product_34 (by decide) ?_
        refine gx_aload_n 36 0 dX2_product_36 rfl ?_
        obtain ⟨z25, ez25, h⟩ := opt_e h
        by_cases c26 : z25.1 = 0
        rotate_left
        · replace h := if_f h c26
          exact gx_callTX (As := []) (rest := [J 42, .ref (ad x0 x1_10)]) 37 0 rfl cw3 (tgs (show stc 7 = (3, 0) by decide) (by decide)) c26 (hrc  _ _ ez25) (lw_V q1127 q1129 qs28 q152 q1130) (by decide +kernel) (by omega) rfl rfl (Nat.le_of_ble_eq_true rfl) dX2_product_37 h
        replace h := if_t h c26
        refine gx_callT (As := []) (rest := [J 42, .ref (ad x0 x1_10)]) (st' := [.ref (ad x0 z25.2.1), J 42, .ref (ad x0 x1_10)]) 37 0 cw3 (tgs (show stc 7 = (3, 0) by decide) (by decide)) c26 (hrc  _ _ ez25) (lw_V q1127 q1129 qs28 q152 q1130) (by decide +kernel) (by omega) rfl rfl (Nat.le_of_ble_eq_true rfl) dX2_product_37 rfl ?_
        obtain ⟨g28, h⟩ := gd_e h
        obtain ⟨z27, ez27, h⟩ := opt_e h
        refine gx_callV (As := [J 42, .ref (ad x0 z25.2.1)]) (rest := []) (st' := []) 40 2 cw14 g28 (mx17_add ez27 l) (lw_V q1197 q1198 q1199 q179 q1200) (by decide +kernel) (by omega) rfl rfl (Nat.le_of_ble_eq_true rfl) dX2_product_40 rfl ?_
        refine gx_goto 43 20 dX2_product_43 (by decide) ?_
        refine gx_sub [0, 1, 2] rfl ?_
        exact ih _ _ _ h
theorem mx2_product {rc : XS → Option RX} {d : Nat} {x0 : Nat} {D : XD} {s0 : XS} {res : RX} {l : Launch} (hrc : ∀ (t_ : XS) (z_ : RX), rc  t_ = some z_ → XMet l yX2_atom cX2_atom 3 (some (.object "VerbAtDusk$Value")) d true x0 D [.ref (ad x0 7)] t_ 3 z_) (h : x2_product rc s0 = some res) : XMet l yX2_product cX2_product 3 (some (.object "VerbAtDusk$Value")) (d + 9) true x0 D [.ref (ad x0 7)] s0 3 res := by
  refine XMet.ofn [(0, .ref (ad x0 7))] "VerbAtDusk$Reader" "product" rfl rfl (by decide) (Nat.le_of_ble_eq_true rfl) rfl ?_
  unfold x2_product at h
  generalize nC s0 = cN
  generalize nS s0 = sN
  obtain ⟨g1, h⟩ := gd_e h
  obtain ⟨s2, es2, h⟩ := bnd_e h
  refine gx_new (t := 14) 0 g1 cw14 tyX17 tyX17_ok (df_14 true x0 _) q1082 q1083 q179 es2 dX2_product_0 ?_
  refine gx_dup 3 dX2_product_3 rfl ?_
  obtain ⟨z3, ez3, h⟩ := opt_e h
  refine gx_callIN (As := []) (rest := [.ref (ad x0 (s0 (-1) 0))]) 4 0 (mx17_init ez3 l) q1086 q179 q1084 q1085 rfl (by decide +kernel) (by omega) rfl rfl (Nat.le_of_ble_eq_true rfl) dX2_product_4 ?_
  obtain ⟨x1_4, ex1_4, h⟩ := bnd_e h
  refine gx_astore_nv 7 [(1, .ref (ad x0 x1_4)), (0, .ref (ad x0 7))] dX2_product_7 (by decide) ex1_4 rfl ?_
  refine gx_aload_n 8 0 dX2_product_8 rfl ?_
  refine gx_bipush 9 dX2_product_9 (by decide) ?_
  refine gx_aload_n 11 1 dX2_product_11 rfl ?_
  obtain ⟨z5, ez5, h⟩ := opt_e h
  by_cases c6 : z5.1 = 0
  rotate_left
  · replace h := if_f h c6
    exact gx_callTX (As := []) (rest := [J 42, .ref (ad x0 x1_4)]) 12 0 rfl cw3 (tgs (show stc 7 = (3, 0) by decide) (by decide)) c6 (hrc  _ _ ez5) (lw_V q1127 q1129 qs28 q152 q1130) (by decide +kernel) (by omega) rfl rfl (Nat.le_of_ble_eq_true rfl) dX2_product_12 h
  replace h := if_t h c6
  refine gx_callT (As := []) (rest := [J 42, .ref (ad x0 x1_4)]) (st' := [.ref (ad x0 z5.2.1), J 42, .ref (ad x0 x1_4)]) 12 0 cw3 (tgs (show stc 7 = (3, 0) by decide) (by decide)) c6 (hrc  _ _ ez5) (lw_V q1127 q1129 qs28 q152 q1130) (by decide +kernel) (by omega) rfl rfl (Nat.le_of_ble_eq_true rfl) dX2_product_12 rfl ?_
  obtain ⟨g8, h⟩ := gd_e h
  obtain ⟨z7, ez7, h⟩ := opt_e h
  refine gx_callV (As := [J 42, .ref (ad x0 z5.2.1)]) (rest := []) (st' := []) 15 2 cw14 g8 (mx17_add ez7 l) (lw_V q1197 q1198 q1199 q179 q1200) (by decide +kernel) (by omega) rfl rfl (Nat.le_of_ble_eq_true rfl) dX2_product_15 rfl ?_
  refine gx_iconst 18 dX2_product_18 ?_
  obtain ⟨x2_9, ex2_9, h⟩ := bnd_e h
  refine gx_istore_n 19 [(2, J x2_9), (1, .ref (ad x0 x1_4)), (0, .ref (ad x0 7))] dX2_product_19 (by decide) ex2_9 rfl ?_
  refine gx_sub [2, 1, 0] rfl ?_
  refine wx2_product_L20 hrc (fun x1_29 s30 h => ?_) FU _ _ _ h
  · refine gx_aload_n 73 0 dX2_product_73 rfl ?_
    exact gx_aret 74 (Or.inl ⟨_, rfl⟩) dX2_product_74 h
/-! VerbAtDusk$Reader.sum -/
noncomputable def x2_sum_L20 (rc : XS → Option RX) (k73 : Int → XS → Option RX) : Nat → Int → Int → XS → Option RX
  | 0, _, _, _ => none
  | n + 1, x1_10, x2_11, s12 =>
    if i32 x2_11 = 0 then
      k73 x1_10 s12
    else
      Option.bind (x2_takes 43 s12) fun z16 =>
      if i32 z16.1 = 0 then
        Option.bind (x2_takes 45 z16.2) fun z18 =>
        if i32 z18.1 = 0 then
          bnd 0 fun x2_20 =>
          x2_sum_L20 rc k73 n x1_10 x2_20 z18.2
        else
          Option.bind (x2_product rc z18.2) fun z21 =>
          if z21.1 = 0 then
          gd (tg true z21.2.2 x1_10 = 14) <|
          Option.bind (x17_add true x1_10 45 z21.2.1 z21.2.2) fun z23 =>
          x2_sum_L20 rc k73 n x1_10 x2_11 z23.2
          else some (1, 0, z21.2.2)
      else
        Option.bind (x2_product rc z16.2) fun z25 =>
        if z25.1 = 0 then
        gd (tg true z25.2.2 x1_10 = 14) <|
        Option.bind (x17_add true x1_10 43 z25.2.1 z25.2.2) fun z27 =>
        x2_sum_L20 rc k73 n x1_10 x2_11 z27.2
        else some (1, 0, z25.2.2)
noncomputable def x2_sum (rc : XS → Option RX) (s0 : XS) : Option RX :=
  gd (0 ≤ s0 (-1) 0 ∧ 0 ≤ s0 (-1) 1) <|
  bnd (nwx s0 14 0 2 (dfl 14)) fun s2 =>
  Option.bind (x17_init true (s0 (-1) 0) s2) fun z3 =>
  bnd (s0 (-1) 0) fun x1_4 =>
  Option.bind (x2_product rc z3.2) fun z5 =>
  if z5.1 = 0 then
  gd (tg true z5.2.2 x1_4 = 14) <|
  Option.bind (x17_add true x1_4 43 z5.2.1 z5.2.2) fun z7 =>
  bnd 1 fun x2_9 =>
  x2_sum_L20 rc
    (fun (x1_29 : Int) (s30 : XS) =>
      some (0, x1_29, s30))
    FU x1_4 x2_9 z7.2
  else some (1, 0, z5.2.2)
theorem wx2_sum_L20 {l : Launch} {x0 : Nat} {D : XD} {cN sN : Nat} {res : RX} {rc : XS → Option RX} {d : Nat} (hrc : ∀ (t_ : XS) (z_ : RX), rc  t_ = some z_ → XMet l yX2_atom cX2_atom 3 (some (.object "VerbAtDusk$Value")) d true x0 D [.ref (ad x0 7)] t_ 3 z_) {k73 : Int → XS → Option RX} (hk73 : ∀ (x1_13 : Int) (s14 : XS), k73 x1_13 s14 = some res → GX l cX2_sum "VerbAtDusk$Reader" 3 (some (.object "VerbAtDusk$Value")) "sum" [] x0 D true 3 (d + 10) cN sN res s14 73 [(1, .ref (ad x0 x1_13))] []) : ∀ (n : Nat) (x1_10 : Int) (x2_11 : Int) (s12 : XS), x2_sum_L20 rc k73 n x1_10 x2_11 s12 = some res → GX l cX2_sum "VerbAtDusk$Reader" 3 (some (.object "VerbAtDusk$Value")) "sum" [] x0 D true 3 (d + 10) cN sN res s12 20 [(0, .ref (ad x0 7)), (1, .ref (ad x0 x1_10)), (2, J x2_11)] [] := by
  intro n
  induction n with
  | zero =>
    intro x1_10 x2_11 s12 h
    cases h
  | succ n ih =>
    intro x1_10 x2_11 s12 h
    rw [x2_sum_L20] at h
    refine gx_iload_n 20 2 dX2_sum_20 rfl ?_
    refine gx_if_eq 21 73 dX2_sum_21 (by decide) (fun c15 => ?_) (fun c15 => ?_)
    · replace h := if_t h c15
      refine gx_sub [1] rfl ?_
      exact hk73 _ _ h
    · replace h := if_f h c15
      refine gx_aload_n 24 0 dX2_sum_24 rfl ?_
      refine gx_bipush 25 dX2_sum_25 (by decide) ?_
      obtain ⟨z16, ez16, h⟩ := opt_e h
      refine gx_callV (As := [J 43]) (rest := []) (st' := [J z16.1]) 27 1 cw3 (tgs (show stc 7 = (3, 0) by decide) (by decide)) (mx2_takes ez16 l) (lw_V q1258 q1260 qs31 q152 q1261) (by decide +kernel) (by omega) rfl rfl (Nat.le_of_ble_eq_true rfl) dX2_sum_27 rfl ?_
      refine gx_if_eq 30 46 dX2_sum_30 (by decide) (fun c17 => ?_) (fun c17 => ?_)
      · replace h := if_t h c17
        refine gx_aload_n 46 0 dX2_sum_46 rfl ?_
        refine gx_bipush 47 dX2_sum_47 (by decide) ?_
        obtain ⟨z18, ez18, h⟩ := opt_e h
        refine gx_callV (As := [J 45]) (rest := []) (st' := [J z18.1]) 49 1 cw3 (tgs (show stc 7 = (3, 0) by decide) (by decide)) (mx2_takes ez18 l) (lw_V q1258 q1260 qs31 q152 q1261) (by decide +kernel) (by omega) rfl rfl (Nat.le_of_ble_eq_true rfl) dX2_sum_49 rfl ?_
        refine gx_if_eq 52 68 dX2_sum_52 (by decide) (fun c19 => ?_) (fun c19 => ?_)
        · replace h := if_t h c19
          refine gx_iconst 68 dX2_sum_68 ?_
          obtain ⟨x2_20, ex2_20, h⟩ := bnd_e h
          refine gx_istore_n 69 [(2, J x2_20), (0, .ref (ad x0 7)), (1, .ref (ad x0 x1_10))] dX2_sum_69 (by decide) ex2_20 rfl ?_
          refine gx_goto 70 20 dX2_sum_70 (by decide) ?_
          refine gx_sub [1, 2, 0] rfl ?_
          exact ih _ _ _ h
        · replace h := if_f h c19
          refine gx_aload_n 55 1 dX2_sum_55 rfl ?_
          refine gx_bipush 56 dX2_sum_56 (by decide) ?_
          refine gx_aload_n 58 0 dX2_sum_58 rfl ?_
          obtain ⟨z21, ez21, h⟩ := opt_e h
          by_cases c22 : z21.1 = 0
          rotate_left
          · replace h := if_f h c22
            exact gx_callTX (As := []) (rest := [J 45, .ref (ad x0 x1_10)]) 59 0 rfl cw3 (tgs (show stc 7 = (3, 0) by decide) (by decide)) c22 (mx2_product hrc ez21) (lw_V q1123 q1125 qs27 q152 q1126) (by decide +kernel) (by omega) rfl rfl (Nat.le_of_ble_eq_true rfl) dX2_sum_59 h
          replace h := if_t h c22
          refine gx_callT (As := []) (rest := [J 45, .ref (ad x0 x1_10)]) (st' := [.ref (ad x0 z21.2.1), J 45, .ref (ad x0 x1_10)]) 59 0 cw3 (tgs (show stc 7 = (3, 0) by decide) (by decide)) c22 (mx2_product hrc ez21) (lw_V q1123 q1125 qs27 q152 q1126) (by decide +kernel) (by omega) rfl rfl (Nat.le_of_ble_eq_true rfl) dX2_sum_59 rfl ?_
          obtain ⟨g24, h⟩ := gd_e h
          obtain ⟨z23, ez23, h⟩ := opt_e h
          refine gx_callV (As := [J 45, .ref (ad x0 z21.2.1)]) (rest := []) (st' := []) 62 2 cw14 g24 (mx17_add ez23 l) (lw_V q1197 q1198 q1199 q179 q1200) (by decide +kernel) (by omega) rfl rfl (Nat.le_of_ble_eq_true rfl) dX2_sum_62 rfl ?_
          refine gx_goto 65 20 dX2_sum_65 (by decide) ?_
          refine gx_sub [0, 1, 2] rfl ?_
          exact ih _ _ _ h
      · replace h := if_f h c17
        refine gx_aload_n 33 1 dX2_sum_33 rfl ?_
        refine gx_bipush 34 dX2_sum_34 (by decide) ?_
        refine gx_aload_n 36 0 dX2_sum_36 rfl ?_
        obtain ⟨z25, ez25, h⟩ := opt_e h
        by_cases c26 : z25.1 = 0
        rotate_left
        · replace h := if_f h c26
          exact gx_callTX (As := []) (rest := [J 43, .ref (ad x0 x1_10)]) 37 0 rfl cw3 (tgs (show stc 7 = (3, 0) by decide) (by decide)) c26 (mx2_product hrc ez25) (lw_V q1123 q1125 qs27 q152 q1126) (by decide +kernel) (by omega) rfl rfl (Nat.le_of_ble_eq_true rfl) dX2_sum_37 h
        replace h := if_t h c26
        refine gx_callT (As := []) (rest := [J 43, .ref (ad x0 x1_10)]) (st' := [.ref (ad x0 z25.2.1), J 43, .ref (ad x0 x1_10)]) 37 0 cw3 (tgs (show stc 7 = (3, 0) by decide) (by decide)) c26 (mx2_product hrc ez25) (lw_V q1123 q1125 qs27 q152 q1126) (by decide +kernel) (by omega) rfl rfl (Nat.le_of_ble_eq_true rfl) dX2_sum_37 rfl ?_
        obtain ⟨g28, h⟩ := gd_e h
        obtain ⟨z27, ez27, h⟩ := opt_e h
        refine gx_callV (As := [J 43, .ref (ad x0 z25.2.1)]) (rest := []) (st' := []) 40 2 cw14 g28 (mx17_add ez27 l) (lw_V q1197 q1198 q1199 q179 q1200) (by decide +kernel) (by omega) rfl rfl (Nat.le_of_ble_eq_true rfl) dX2_sum_40 rfl ?_
        refine gx_goto 43 20 dX2_sum_43 (by decide) ?_
        refine gx_sub [0, 1, 2] rfl ?_
        exact ih _ _ _ h
theorem mx2_sum {rc : XS → Option RX} {d : Nat} {x0 : Nat} {D : XD} {s0 : XS} {res : RX} {l : Launch} (hrc : ∀ (t_ : XS) (z_ : RX), rc  t_ = some z_ → XMet l yX2_atom cX2_atom 3 (some (.object "VerbAtDusk$Value")) d true x0 D [.ref (ad x0 7)] t_ 3 z_) (h : x2_sum rc s0 = some res) : XMet l yX2_sum cX2_sum 3 (some (.object "VerbAtDusk$Value")) (d + 10) true x0 D [.ref (ad x0 7)] s0 3 res := by
  refine XMet.ofn [(0, .ref (ad x0 7))] "VerbAtDusk$Reader" "sum" rfl rfl (by decide) (Nat.le_of_ble_eq_true rfl) rfl ?_
  unfold x2_sum at h
  generalize nC s0 = cN
  generalize nS s0 = sN
  obtain ⟨g1, h⟩ := gd_e h
  obtain ⟨s2, es2, h⟩ := bnd_e h
  refine gx_new (t := 14) 0 g1 cw14 tyX17 tyX17_ok (df_14 true x0 _) q1082 q1083 q179 es2 dX2_sum_0 ?_
  refine gx_dup 3 dX2_sum_3 rfl ?_
  obtain ⟨z3, ez3, h⟩ := opt_e h
  refine gx_callIN (As := []) (rest := [.ref (ad x0 (s0 (-1) 0))]) 4 0 (mx17_init ez3 l) q1086 q179 q1084 q1085 rfl (by decide +kernel) (by omega) rfl rfl (Nat.le_of_ble_eq_true rfl) dX2_sum_4 ?_
  obtain ⟨x1_4, ex1_4, h⟩ := bnd_e h
  refine gx_astore_nv 7 [(1, .ref (ad x0 x1_4)), (0, .ref (ad x0 7))] dX2_sum_7 (by decide) ex1_4 rfl ?_
  refine gx_aload_n 8 0 dX2_sum_8 rfl ?_
  refine gx_bipush 9 dX2_sum_9 (by decide) ?_
  refine gx_aload_n 11 1 dX2_sum_11 rfl ?_
  obtain ⟨z5, ez5, h⟩ := opt_e h
  by_cases c6 : z5.1 = 0
  rotate_left
  · replace h := if_f h c6
    exact gx_callTX (As := []) (rest := [J 43, .ref (ad x0 x1_4)]) 12 0 rfl cw3 (tgs (show stc 7 = (3, 0) by decide) (by decide)) c6 (mx2_product hrc ez5) (lw_V q1123 q1125 qs27 q152 q1126) (by decide +kernel) (by omega) rfl rfl (Nat.le_of_ble_eq_true rfl) dX2_sum_12 h
  replace h := if_t h c6
  refine gx_callT (As := []) (rest := [J 43, .ref (ad x0 x1_4)]) (st' := [.ref (ad x0 z5.2.1), J 43, .ref (ad x0 x1_4)]) 12 0 cw3 (tgs (show stc 7 = (3, 0) by decide) (by decide)) c6 (mx2_product hrc ez5) (lw_V q1123 q1125 qs27 q152 q1126) (by decide +kernel) (by omega) rfl rfl (Nat.le_of_ble_eq_true rfl) dX2_sum_12 rfl ?_
  obtain ⟨g8, h⟩ := gd_e h
  obtain ⟨z7, ez7, h⟩ := opt_e h
  refine gx_callV (As := [J 43, .ref (ad x0 z5.2.1)]) (rest := []) (st' := []) 15 2 cw14 g8 (mx17_add ez7 l) (lw_V q1197 q1198 q1199 q179 q1200) (by decide +kernel) (by omega) rfl rfl (Nat.le_of_ble_eq_true rfl) dX2_sum_15 rfl ?_
  refine gx_iconst 18 dX2_sum_18 ?_
  obtain ⟨x2_9, ex2_9, h⟩ := bnd_e h
  refine gx_istore_n 19 [(2, J x2_9), (1, .ref (ad x0 x1_4)), (0, .ref (ad x0 7))] dX2_sum_19 (by decide) ex2_9 rfl ?_
  refine gx_sub [2, 1, 0] rfl ?_
  refine wx2_sum_L20 hrc (fun x1_29 s30 h => ?_) FU _ _ _ h
  · refine gx_aload_n 73 0 dX2_sum_73 rfl ?_
    exact gx_aret 74 (Or.inl ⟨_, rfl⟩) dX2_sum_74 h
/-! VerbAtDusk$Reader.within -/
noncomputable def x2_within (rc : XS → Option RX) (a1 : Int) (s0 : XS) : Option RX :=
  Option.bind (x2_here s0) fun z2 =>
  if i32 z2.1 = i32 40 then
    Option.bind (x2_opens (z2.2 7 2) z2.2) fun z4 =>
    if z4.1 = 0 then
    bnd (ux z4.2.2 7 2 ((z4.2.2 7 2) + 1)) fun s6 =>
    Option.bind (x2_sum rc s6) fun z7 =>
    if z7.1 = 0 then
    bnd z7.2.1 fun x2_9 =>
    bnd (fun (x3_10 : Int) (s11 : XS) =>
        Option.bind (x2_must 41 s11) fun z12 =>
        if z12.1 = 0 then
        bnd (ux z12.2.2 7 4 ((z12.2.2 7 4) - 1)) fun s14 =>
        some (0, x3_10, s14)
        else some (1, 0, z12.2.2)) fun j15 =>
    if i32 a1 ≤ 0 then
      j15 x2_9 z7.2.2
    else
      Option.bind (x2_must 44 z7.2.2) fun z17 =>
      if z17.1 = 0 then
      gd (0 ≤ z17.2.2 (-1) 0 ∧ 0 ≤ z17.2.2 (-1) 1) <|
      bnd (nwx z17.2.2 15 0 3 (dfl 15)) fun s20 =>
      bnd (fun (x2_21 : Int) (w22 : Int) (w23 : Int) (w24 : Int) (s25 : XS) =>
          Option.bind (x2_sum rc s25) fun z26 =>
          if z26.1 = 0 then
          Option.bind (x18_init true w23 w22 x2_21 z26.2.1 z26.2.2) fun z28 =>
          j15 w24 z28.2
          else some (1, 0, z26.2.2)) fun j29 =>
      if i32 a1 = i32 2 then
        j29 x2_9 1 (z17.2.2 (-1) 0) (z17.2.2 (-1) 0) s20
      else
        j29 x2_9 0 (z17.2.2 (-1) 0) (z17.2.2 (-1) 0) s20
      else some (1, 0, z17.2.2)
    else some (1, 0, z7.2.2)
    else some (1, 0, z4.2.2)
  else
    Option.bind (x2_wrong 1 (z2.2 7 2) z2.2) fun z31 =>
    gd (z31.1 = 8) <|
    some (1, 0, z31.2)
theorem mx2_within {rc : XS → Option RX} {d : Nat} {x0 : Nat} {D : XD} {a1 : Int} {s0 : XS} {res : RX} {l : Launch} (hrc : ∀ (t_ : XS) (z_ : RX), rc  t_ = some z_ → XMet l yX2_atom cX2_atom 3 (some (.object "VerbAtDusk$Value")) d true x0 D [.ref (ad x0 7)] t_ 3 z_) (h : x2_within rc a1 s0 = some res) : XMet l yX2_within cX2_within 4 (some (.object "VerbAtDusk$Value")) (d + 11) true x0 D [.ref (ad x0 7), J a1] s0 3 res := by
  refine XMet.ofn [(0, .ref (ad x0 7)), (1, J a1)] "VerbAtDusk$Reader" "within" rfl rfl (by decide) (Nat.le_of_ble_eq_true rfl) rfl ?_
  unfold x2_within at h
  generalize nC s0 = cN
  generalize nS s0 = sN
  refine gx_aload_n 0 0 dX2_within_0 rfl ?_
  obtain ⟨z2, ez2, h⟩ := opt_e h
  refine gx_callV (As := []) (rest := []) (st' := [J z2.1]) 1 0 cw3 (tgs (show stc 7 = (3, 0) by decide) (by decide)) (mx2_here ez2 l) (lw_V q636 q638 qs6 q152 q639) (by decide +kernel) (by omega) rfl rfl (Nat.le_of_ble_eq_true rfl) dX2_within_1 rfl ?_
  refine gx_bipush 4 dX2_within_4 (by decide) ?_
  refine gx_icmp_eq 6 19 dX2_within_6 (by decide) (fun c3 => ?_) (fun c3 => ?_)
  · replace h := if_t h c3
    refine gx_aload_n 19 0 dX2_within_19 rfl ?_
    refine gx_aload_n 20 0 dX2_within_20 rfl ?_
    refine gx_get (t := 3) (k := 2) (v := J (z2.2 7 2)) 21 cw3 (by decide) (tgs (show stc 7 = (3, 0) by decide) (by decide)) q354 same_f rfl dX2_within_21 ?_
    obtain ⟨z4, ez4, h⟩ := opt_e h
    by_cases c5 : z4.1 = 0
    rotate_left
    · replace h := if_f h c5
      exact gx_callTX (As := [J (z2.2 7 2)]) (rest := []) 24 1 rfl cw3 (tgs (show stc 7 = (3, 0) by decide) (by decide)) c5 (mx2_opens ez4 l) (lw_V q1051 q1053 qs24 q152 q1054) (by decide +kernel) (by omega) rfl rfl (Nat.le_of_ble_eq_true rfl) dX2_within_24 h
    replace h := if_t h c5
    refine gx_callT (As := [J (z2.2 7 2)]) (rest := []) (st' := []) 24 1 cw3 (tgs (show stc 7 = (3, 0) by decide) (by decide)) c5 (mx2_opens ez4 l) (lw_V q1051 q1053 qs24 q152 q1054) (by decide +kernel) (by omega) rfl rfl (Nat.le_of_ble_eq_true rfl) dX2_within_24 rfl ?_
    refine gx_aload_n 27 0 dX2_within_27 rfl ?_
    refine gx_dup 28 dX2_within_28 rfl ?_
    refine gx_get (t := 3) (k := 2) (v := J (z4.2.2 7 2)) 29 cw3 (by decide) (tgs (show stc 7 = (3, 0) by decide) (by decide)) q354 same_f rfl dX2_within_29 ?_
    refine gx_iconst 32 dX2_within_32 ?_
    refine gx_iadd 33 dX2_within_33 ?_
    obtain ⟨s6, es6, h⟩ := bnd_e h
    refine gx_put (t := 3) (k := 2) (x := ((z4.2.2 7 2) + 1)) (ty := .int) 34 cw3 (by decide) (tgs (show stc 7 = (3, 0) by decide) (by decide)) (st0 (show stc 7 = (3, 0) by decide) (by decide)) (stm (show stc 7 = (3, 0) by decide) (by decide)) q354 same_f rfl (by decide +kernel) rfl rfl (congrArg J (ux_s _ _ _ _)) es6 dX2_within_34 ?_
    refine gx_aload_n 37 0 dX2_within_37 rfl ?_
    obtain ⟨z7, ez7, h⟩ := opt_e h
    by_cases c8 : z7.1 = 0
    rotate_left
    · replace h := if_f h c8
      exact gx_callTX (As := []) (rest := []) 38 0 rfl cw3 (tgs (show stc 7 = (3, 0) by decide) (by decide)) c8 (mx2_sum hrc ez7) (lw_V q1078 q1080 qs26 q152 q1081) (by decide +kernel) (by omega) rfl rfl (Nat.le_of_ble_eq_true rfl) dX2_within_38 h
    replace h := if_t h c8
    refine gx_callT (As := []) (rest := []) (st' := [.ref (ad x0 z7.2.1)]) 38 0 cw3 (tgs (show stc 7 = (3, 0) by decide) (by decide)) c8 (mx2_sum hrc ez7) (lw_V q1078 q1080 qs26 q152 q1081) (by decide +kernel) (by omega) rfl rfl (Nat.le_of_ble_eq_true rfl) dX2_within_38 rfl ?_
    obtain ⟨x2_9, ex2_9, h⟩ := bnd_e h
    refine gx_astore_nv 41 [(2, .ref (ad x0 x2_9)), (0, .ref (ad x0 7)), (1, J a1)] dX2_within_41 (by decide) ex2_9 rfl ?_
    refine gx_aload_n 42 0 dX2_within_42 rfl ?_
    refine gx_astore_nv 43 [(3, .ref (ad x0 x2_9)), (2, .ref (ad x0 x2_9)), (0, .ref (ad x0 7)), (1, J a1)] dX2_within_43 (by decide) rfl rfl ?_
    refine gx_iload_n 44 3 dX2_within_44 rfl ?_
    obtain ⟨j15, ej15, h⟩ := bnd_e h
    have hj15 : ∀ (x3_10 : Int) (s11 : XS), j15 x3_10 s11 = some res → GX l cX2_within "VerbAtDusk$Reader" 4 (some (.object "VerbAtDusk$Value")) "within" [] x0 D true 3 (d + 11) cN sN res s11 77 [(0, .ref (ad x0 7)), (3, .ref (ad x0 x3_10))] [] := by
      clear h
      intro x3_10 s11 h
      subst ej15
      refine gx_aload_n 77 0 dX2_within_77 rfl ?_
      refine gx_bipush 78 dX2_within_78 (by decide) ?_
      obtain ⟨z12, ez12, h⟩ := opt_e h
      by_cases c13 : z12.1 = 0
      rotate_left
      · replace h := if_f h c13
        exact gx_callTX (As := [J 41]) (rest := []) 80 1 rfl cw3 (tgs (show stc 7 = (3, 0) by decide) (by decide)) c13 (mx2_must ez12 l) (lw_V q750 q752 qs11 q152 q753) (by decide +kernel) (by omega) rfl rfl (Nat.le_of_ble_eq_true rfl) dX2_within_80 h
      replace h := if_t h c13
      refine gx_callT (As := [J 41]) (rest := []) (st' := []) 80 1 cw3 (tgs (show stc 7 = (3, 0) by decide) (by decide)) c13 (mx2_must ez12 l) (lw_V q750 q752 qs11 q152 q753) (by decide +kernel) (by omega) rfl rfl (Nat.le_of_ble_eq_true rfl) dX2_within_80 rfl ?_
      refine gx_aload_n 83 0 dX2_within_83 rfl ?_
      refine gx_dup 84 dX2_within_84 rfl ?_
      refine gx_get (t := 3) (k := 4) (v := J (z12.2.2 7 4)) 85 cw3 (by decide) (tgs (show stc 7 = (3, 0) by decide) (by decide)) q356 same_f rfl dX2_within_85 ?_
      refine gx_iconst 88 dX2_within_88 ?_
      refine gx_isub 89 dX2_within_89 ?_
      obtain ⟨s14, es14, h⟩ := bnd_e h
      refine gx_put (t := 3) (k := 4) (x := ((z12.2.2 7 4) - 1)) (ty := .int) 90 cw3 (by decide) (tgs (show stc 7 = (3, 0) by decide) (by decide)) (st0 (show stc 7 = (3, 0) by decide) (by decide)) (stm (show stc 7 = (3, 0) by decide) (by decide)) q356 same_f rfl (by decide +kernel) rfl rfl (congrArg J (ux_s _ _ _ _)) es14 dX2_within_90 ?_
      refine gx_aload_n 93 1 dX2_within_93 rfl ?_
      exact gx_aret 94 (Or.inl ⟨_, rfl⟩) dX2_within_94 h
    refine gx_if_le 45 77 dX2_within_45 (by decide) (fun c16 => ?_) (fun c16 => ?_)
    · replace h := if_t h c16
      refine gx_sub [2, 0] rfl ?_
      exact hj15 _ _ h
    · replace h := if_f h c16
      refine gx_aload_n 48 2 dX2_within_48 rfl ?_
      refine gx_bipush 49 dX2_within_49 (by decide) ?_
      obtain ⟨z17, ez17, h⟩ := opt_e h
      by_cases c18 : z17.1 = 0
      rotate_left
      · replace h := if_f h c18
        exact gx_callTX (As := [J 44]) (rest := []) 51 1 rfl cw3 (tgs (show stc 7 = (3, 0) by decide) (by decide)) c18 (mx2_must ez17 l) (lw_V q750 q752 qs11 q152 q753) (by decide +kernel) (by omega) rfl rfl (Nat.le_of_ble_eq_true rfl) dX2_within_51 h
      replace h := if_t h c18
      refine gx_callT (As := [J 44]) (rest := []) (st' := []) 51 1 cw3 (tgs (show stc 7 = (3, 0) by decide) (by decide)) c18 (mx2_must ez17 l) (lw_V q750 q752 qs11 q152 q753) (by decide +kernel) (by omega) rfl rfl (Nat.le_of_ble_eq_true rfl) dX2_within_51 rfl ?_
      obtain ⟨g19, h⟩ := gd_e h
      obtain ⟨s20, es20, h⟩ := bnd_e h
      refine gx_new (t := 15) 54 g19 cw15 tyX18 tyX18_ok (df_15 true x0 _) q1135 q1136 q182 es20 dX2_within_54 ?_
      refine gx_dup 57 dX2_within_57 rfl ?_
      refine gx_iload_n 58 3 dX2_within_58 rfl ?_
      refine gx_iconst 59 dX2_within_59 ?_
      obtain ⟨j29, ej29, h⟩ := bnd_e h
      have hj29 : ∀ (x2_21 : Int) (w22 : Int) (w23 : Int) (w24 : Int) (s25 : XS), j29 x2_21 w22 w23 w24 s25 = some res → GX l cX2_within "VerbAtDusk$Reader" 4 (some (.object "VerbAtDusk$Value")) "within" [] x0 D true 3 (d + 11) cN sN res s25 68 [(0, .ref (ad x0 7)), (2, .ref (ad x0 x2_21))] [J w22, .ref (ad x0 w23), .ref (ad x0 w24)] := by
        clear h
        intro x2_21 w22 w23 w24 s25 h
        subst ej29
        refine gx_aload_n 68 1 dX2_within_68 rfl ?_
        refine gx_aload_n 69 0 dX2_within_69 rfl ?_
        obtain ⟨z26, ez26, h⟩ := opt_e h
        by_cases c27 : z26.1 = 0
        rotate_left
        · replace h := if_f h c27
          exact gx_callTX (As := []) (rest := [.ref (ad x0 x2_21), J w22, .ref (ad x0 w23), .ref (ad x0 w24)]) 70 0 rfl cw3 (tgs (show stc 7 = (3, 0) by decide) (by decide)) c27 (mx2_sum hrc ez26) (lw_V q1078 q1080 qs26 q152 q1081) (by decide +kernel) (by omega) rfl rfl (Nat.le_of_ble_eq_true rfl) dX2_within_70 h
        replace h := if_t h c27
        refine gx_callT (As := []) (rest := [.ref (ad x0 x2_21), J w22, .ref (ad x0 w23), .ref (ad x0 w24)]) (st' := [.ref (ad x0 z26.2.1), .ref (ad x0 x2_21), J w22, .ref (ad x0 w23), .ref (ad x0 w24)]) 70 0 cw3 (tgs (show stc 7 = (3, 0) by decide) (by decide)) c27 (mx2_sum hrc ez26) (lw_V q1078 q1080 qs26 q152 q1081) (by decide +kernel) (by omega) rfl rfl (Nat.le_of_ble_eq_true rfl) dX2_within_70 rfl ?_
        obtain ⟨z28, ez28, h⟩ := opt_e h
        refine gx_callI (As := [J w22, .ref (ad x0 x2_21), .ref (ad x0 z26.2.1)]) (rest := [.ref (ad x0 w24)]) 73 3 (mx18_init ez28 l) q1139 q182 q1137 q1138 rfl (by decide +kernel) (by omega) rfl rfl (Nat.le_of_ble_eq_true rfl) dX2_within_73 ?_
        refine gx_astore_nv 76 [(3, .ref (ad x0 w24)), (0, .ref (ad x0 7)), (2, .ref (ad x0 x2_21))] dX2_within_76 (by decide) rfl rfl ?_
        refine gx_sub [1, 0] rfl ?_
        exact hj15 _ _ h
      refine gx_icmp_ne 60 67 dX2_within_60 (by decide) (fun c30 => ?_) (fun c30 => ?_)
      · replace h := if_f h c30
        refine gx_iconst 67 dX2_within_67 ?_
        refine gx_sub [2, 1] rfl ?_
        exact hj29 _ _ _ _ _ h
      · replace h := if_t h c30
        refine gx_iconst 63 dX2_within_63 ?_
        refine gx_goto 64 68 dX2_within_64 (by decide) ?_
        refine gx_sub [2, 1] rfl ?_
        exact hj29 _ _ _ _ _ h
  · replace h := if_f h c3
    refine gx_aload_n 9 0 dX2_within_9 rfl ?_
    refine gx_iconst 10 dX2_within_10 ?_
    refine gx_aload_n 11 0 dX2_within_11 rfl ?_
    refine gx_get (t := 3) (k := 2) (v := J (z2.2 7 2)) 12 cw3 (by decide) (tgs (show stc 7 = (3, 0) by decide) (by decide)) q354 same_f rfl dX2_within_12 ?_
    obtain ⟨z31, ez31, h⟩ := opt_e h
    refine gx_callV (As := [J 1, J (z2.2 7 2)]) (rest := []) (st' := [.ref (ad x0 z31.1)]) 15 2 cw3 (tgs (show stc 7 = (3, 0) by decide) (by decide)) (mx2_wrong ez31 l) (lw_V q647 q649 qs8 q152 q650) (by decide +kernel) (by omega) rfl rfl (Nat.le_of_ble_eq_true rfl) dX2_within_15 rfl ?_
    obtain ⟨g32, h⟩ := gd_e h
    rw [g32]
    exact gx_athrowE 18 rfl rfl (tgs (show stc 8 = (4, 0) by decide) (by decide)) cw4 dX2_within_18 h
/-! VerbAtDusk$Reader.looked -/
noncomputable def x2_looked (rc : XS → Option RX) (a1 : Int) (s0 : XS) : Option RX :=
  Option.bind (x2_opens (s0 7 3) s0) fun z2 =>
  if z2.1 = 0 then
  gd (0 ≤ z2.2.2 (-1) 0 ∧ 0 ≤ z2.2.2 (-1) 1) <|
  bnd (nwx z2.2.2 18 0 3 (dfl 18)) fun s5 =>
  Option.bind (rc s5) fun z6 =>
  if z6.1 = 0 then
  Option.bind (x21_init true (z2.2.2 (-1) 0) 0 a1 z6.2.1 z6.2.2) fun z8 =>
  bnd (z2.2.2 (-1) 0) fun x2_9 =>
  bnd (ux z8.2 7 4 ((z8.2 7 4) - 1)) fun s10 =>
  some (0, x2_9, s10)
  else some (1, 0, z6.2.2)
  else some (1, 0, z2.2.2)
theorem mx2_looked {rc : XS → Option RX} {d : Nat} {x0 : Nat} {D : XD} {a1 : Int} {s0 : XS} {res : RX} {l : Launch} (hrc : ∀ (t_ : XS) (z_ : RX), rc  t_ = some z_ → XMet l yX2_atom cX2_atom 3 (some (.object "VerbAtDusk$Value")) d true x0 D [.ref (ad x0 7)] t_ 3 z_) (h : x2_looked rc a1 s0 = some res) : XMet l yX2_looked cX2_looked 3 (some (.object "VerbAtDusk$Value")) (d + 4) true x0 D [.ref (ad x0 7), J a1] s0 3 res := by
  refine XMet.ofn [(0, .ref (ad x0 7)), (1, J a1)] "VerbAtDusk$Reader" "looked" rfl rfl (by decide) (Nat.le_of_ble_eq_true rfl) rfl ?_
  unfold x2_looked at h
  generalize nC s0 = cN
  generalize nS s0 = sN
  refine gx_aload_n 0 0 dX2_looked_0 rfl ?_
  refine gx_aload_n 1 0 dX2_looked_1 rfl ?_
  refine gx_get (t := 3) (k := 3) (v := J (s0 7 3)) 2 cw3 (by decide) (tgs (show stc 7 = (3, 0) by decide) (by decide)) q355 same_f rfl dX2_looked_2 ?_
  obtain ⟨z2, ez2, h⟩ := opt_e h
  by_cases c3 : z2.1 = 0
  rotate_left
  · replace h := if_f h c3
    exact gx_callTX (As := [J (s0 7 3)]) (rest := []) 5 1 rfl cw3 (tgs (show stc 7 = (3, 0) by decide) (by decide)) c3 (mx2_opens ez2 l) (lw_V q1051 q1053 qs24 q152 q1054) (by decide +kernel) (by omega) rfl rfl (Nat.le_of_ble_eq_true rfl) dX2_looked_5 h
  replace h := if_t h c3
  refine gx_callT (As := [J (s0 7 3)]) (rest := []) (st' := []) 5 1 cw3 (tgs (show stc 7 = (3, 0) by decide) (by decide)) c3 (mx2_opens ez2 l) (lw_V q1051 q1053 qs24 q152 q1054) (by decide +kernel) (by omega) rfl rfl (Nat.le_of_ble_eq_true rfl) dX2_looked_5 rfl ?_
  obtain ⟨g4, h⟩ := gd_e h
  obtain ⟨s5, es5, h⟩ := bnd_e h
  refine gx_new (t := 18) 8 g4 cw18 tyX21 tyX21_ok (df_18 true x0 _) q1179 q1180 q185 es5 dX2_looked_8 ?_
  refine gx_dup 11 dX2_looked_11 rfl ?_
  refine gx_aload_n 12 0 dX2_looked_12 rfl ?_
  refine gx_get (t := 3) (k := 7) (v := .ref (ad x0 0)) 13 cw3 (by decide) (tgs (show stc 7 = (3, 0) by decide) (by decide)) q359 same_f (rf_ne (nes (show stc 0 = (1, 0) by decide) (by decide))) dX2_looked_13 ?_
  refine gx_iload_n 16 1 dX2_looked_16 rfl ?_
  refine gx_aload_n 17 0 dX2_looked_17 rfl ?_
  obtain ⟨z6, ez6, h⟩ := opt_e h
  by_cases c7 : z6.1 = 0
  rotate_left
  · replace h := if_f h c7
    exact gx_callTX (As := []) (rest := [J a1, .ref (ad x0 0), .ref (ad x0 (z2.2.2 (-1) 0)), .ref (ad x0 (z2.2.2 (-1) 0))]) 18 0 rfl cw3 (tgs (show stc 7 = (3, 0) by decide) (by decide)) c7 (hrc  _ _ ez6) (lw_V q1127 q1129 qs28 q152 q1130) (by decide +kernel) (by omega) rfl rfl (Nat.le_of_ble_eq_true rfl) dX2_looked_18 h
  replace h := if_t h c7
  refine gx_callT (As := []) (rest := [J a1, .ref (ad x0 0), .ref (ad x0 (z2.2.2 (-1) 0)), .ref (ad x0 (z2.2.2 (-1) 0))]) (st' := [.ref (ad x0 z6.2.1), J a1, .ref (ad x0 0), .ref (ad x0 (z2.2.2 (-1) 0)), .ref (ad x0 (z2.2.2 (-1) 0))]) 18 0 cw3 (tgs (show stc 7 = (3, 0) by decide) (by decide)) c7 (hrc  _ _ ez6) (lw_V q1127 q1129 qs28 q152 q1130) (by decide +kernel) (by omega) rfl rfl (Nat.le_of_ble_eq_true rfl) dX2_looked_18 rfl ?_
  obtain ⟨z8, ez8, h⟩ := opt_e h
  refine gx_callI (As := [.ref (ad x0 0), J a1, .ref (ad x0 z6.2.1)]) (rest := [.ref (ad x0 (z2.2.2 (-1) 0))]) 21 3 (mx21_init ez8 l) q1183 q185 q1181 q1182 rfl (by decide +kernel) (by omega) rfl rfl (Nat.le_of_ble_eq_true rfl) dX2_looked_21 ?_
  obtain ⟨x2_9, ex2_9, h⟩ := bnd_e h
  refine gx_astore_nv 24 [(2, .ref (ad x0 x2_9)), (0, .ref (ad x0 7)), (1, J a1)] dX2_looked_24 (by decide) ex2_9 rfl ?_
  refine gx_aload_n 25 1 dX2_looked_25 rfl ?_
  refine gx_dup 26 dX2_looked_26 rfl ?_
  refine gx_get (t := 3) (k := 4) (v := J (z8.2 7 4)) 27 cw3 (by decide) (tgs (show stc 7 = (3, 0) by decide) (by decide)) q356 same_f rfl dX2_looked_27 ?_
  refine gx_iconst 30 dX2_looked_30 ?_
  refine gx_isub 31 dX2_looked_31 ?_
  obtain ⟨s10, es10, h⟩ := bnd_e h
  refine gx_put (t := 3) (k := 4) (x := ((z8.2 7 4) - 1)) (ty := .int) 32 cw3 (by decide) (tgs (show stc 7 = (3, 0) by decide) (by decide)) (st0 (show stc 7 = (3, 0) by decide) (by decide)) (stm (show stc 7 = (3, 0) by decide) (by decide)) q356 same_f rfl (by decide +kernel) rfl rfl (congrArg J (ux_s _ _ _ _)) es10 dX2_looked_32 ?_
  refine gx_aload_n 35 0 dX2_looked_35 rfl ?_
  exact gx_aret 36 (Or.inl ⟨_, rfl⟩) dX2_looked_36 h
/-! VerbAtDusk$Reader.atom -/
noncomputable def x2_atom_B (rc : XS → Option RX) (s0 : XS) : Option RX :=
  Option.bind (x2_here s0) fun z1 =>
  if i32 z1.1 = i32 40 then
    Option.bind (x2_within rc 0 z1.2) fun z55 =>
    if z55.1 = 0 then
    some (0, z55.2.1, z55.2.2)
    else some (1, 0, z55.2.2)
  else
    Option.bind (x2_here z1.2) fun z3 =>
    Option.bind (x0_isDigit z3.1 z3.2) fun z4 =>
    if i32 z4.1 = 0 then
      Option.bind (x2_word_2 z4.2) fun z6 =>
      if z6.1 = 0 then
      bnd z6.2.1 fun x1_8 =>
      gd (¬ (z6.2.2 (-1) 101) = -1) <|
      Option.bind (x0_find x1_8 (z6.2.2 (-1) 101) z6.2.2) fun z10 =>
      bnd z10.1 fun x2_11 =>
      bnd (fun (x1_12 : Int) (s13 : XS) =>
          bnd (fun (x1_14 : Int) (w15 : Int) (s16 : XS) =>
              if i32 w15 = i32 (-1) then
                gd (tg true s16 x1_14 = 22) <|
                Option.bind (j6_equals true x1_14 (s16 (-1) 134) s16) fun z18 =>
                bnd (fun (x1_20 : Int) (s21 : XS) =>
                    gd (tg true s21 x1_20 = 22) <|
                    Option.bind (j6_equals true x1_20 (s21 (-1) 134) s21) fun z22 =>
                    bnd (fun (w24 : Int) (s25 : XS) =>
                        Option.bind (x2_within rc w24 s25) fun z26 =>
                        if z26.1 = 0 then
                        some (0, z26.2.1, z26.2.2)
                        else some (1, 0, z26.2.2)) fun j28 =>
                    if i32 z22.1 = 0 then
                      j28 2 z22.2
                    else
                      j28 1 z22.2) fun j30 =>
                if i32 z18.1 = 0 then
                  gd (tg true z18.2 x1_14 = 22) <|
                  Option.bind (j6_equals true x1_14 (z18.2 (-1) 135) z18.2) fun z32 =>
                  if i32 z32.1 = 0 then
                    Option.bind (x2_wrong 1 (z32.2 7 3) z32.2) fun z35 =>
                    gd (z35.1 = 8) <|
                    some (1, 0, z35.2)
                  else
                    j30 x1_14 z32.2
                else
                  j30 x1_14 z18.2
              else
                Option.bind (x2_looked rc w15 s16) fun z37 =>
                if z37.1 = 0 then
                some (0, z37.2.1, z37.2.2)
                else some (1, 0, z37.2.2)) fun j39 =>
          if i32 (s13 7 5) = i32 497 then
            gd (¬ (s13 (-1) 102) = -1) <|
            Option.bind (x0_find x1_12 (s13 (-1) 102) s13) fun z42 =>
            j39 x1_12 z42.1 z42.2
          else
            j39 x1_12 (-1) s13) fun j43 =>
      if i32 x2_11 = i32 (-1) then
        j43 x1_8 z10.2
      else
        Option.bind (x0_has (z10.2 7 5) x2_11 z10.2) fun z45 =>
        if i32 z45.1 = 0 then
          j43 x1_8 z45.2
        else
          gd (0 ≤ z45.2 (-1) 0 ∧ 0 ≤ z45.2 (-1) 1) <|
          bnd (nwx z45.2 17 0 1 (dfl 17)) fun s48 =>
          Option.bind (x20_init true (z45.2 (-1) 0) x2_11 s48) fun z49 =>
          some (0, (z45.2 (-1) 0), z49.2)
      else some (1, 0, z6.2.2)
    else
      gd (0 ≤ z4.2 (-1) 0 ∧ 0 ≤ z4.2 (-1) 1) <|
      bnd (nwx z4.2 16 0 1 (dfl 16)) fun s51 =>
      Option.bind (x2_number 0 9999 s51) fun z52 =>
      if z52.1 = 0 then
      Option.bind (x19_init true (z4.2 (-1) 0) (i32 z52.2.1) z52.2.2) fun z54 =>
      some (0, (z4.2 (-1) 0), z54.2)
      else some (1, 0, z52.2.2)
noncomputable def x2_atom : Nat → XS → Option RX
  | 0, _ => none
  | n + 1, t_ => x2_atom_B (x2_atom n) t_
theorem mx2_atom_B {rc : XS → Option RX} {d : Nat} {x0 : Nat} {D : XD} {s0 : XS} {res : RX} {l : Launch} (hrc : ∀ (t_ : XS) (z_ : RX), rc  t_ = some z_ → XMet l yX2_atom cX2_atom 3 (some (.object "VerbAtDusk$Value")) d true x0 D [.ref (ad x0 7)] t_ 3 z_) (h : x2_atom_B rc s0 = some res) : XMet l yX2_atom cX2_atom 3 (some (.object "VerbAtDusk$Value")) (d + 12) true x0 D [.ref (ad x0 7)] s0 3 res := by
  refine XMet.ofn [(0, .ref (ad x0 7))] "VerbAtDusk$Reader" "atom" rfl rfl (by decide) (Nat.le_of_ble_eq_true rfl) rfl ?_
  unfold x2_atom_B at h
  generalize nC s0 = cN
  generalize nS s0 = sN
  refine gx_aload_n 0 0 dX2_atom_0 rfl ?_
  obtain ⟨z1, ez1, h⟩ := opt_e h
  refine gx_callV (As := []) (rest := []) (st' := [J z1.1]) 1 0 cw3 (tgs (show stc 7 = (3, 0) by decide) (by decide)) (mx2_here ez1 l) (lw_V q636 q638 qs6 q152 q639) (by decide +kernel) (by omega) rfl rfl (Nat.le_of_ble_eq_true rfl) dX2_atom_1 rfl ?_
  refine gx_bipush 4 dX2_atom_4 (by decide) ?_
  refine gx_icmp_ne 6 15 dX2_atom_6 (by decide) (fun c2 => ?_) (fun c2 => ?_)
  · replace h := if_f h c2
    refine gx_aload_n 15 0 dX2_atom_15 rfl ?_
    obtain ⟨z3, ez3, h⟩ := opt_e h
    refine gx_callV (As := []) (rest := []) (st' := [J z3.1]) 16 0 cw3 (tgs (show stc 7 = (3, 0) by decide) (by decide)) (mx2_here ez3 l) (lw_V q636 q638 qs6 q152 q639) (by decide +kernel) (by omega) rfl rfl (Nat.le_of_ble_eq_true rfl) dX2_atom_16 rfl ?_
    obtain ⟨z4, ez4, h⟩ := opt_e h
    refine gx_callSN (As := [J z3.1]) (rest := []) (st' := [J z4.1]) 19 1 (mx0_isDigit ez4 l) q657 q147 q655 q656 (by decide +kernel) (by omega) rfl rfl (Nat.le_of_ble_eq_true rfl) dX2_atom_19 rfl ?_
    refine gx_if_eq 22 42 dX2_atom_22 (by decide) (fun c5 => ?_) (fun c5 => ?_)
    · replace h := if_t h c5
      refine gx_aload_n 42 0 dX2_atom_42 rfl ?_
      obtain ⟨z6, ez6, h⟩ := opt_e h
      by_cases c7 : z6.1 = 0
      rotate_left
      · replace h := if_f h c7
        exact gx_callTX (As := []) (rest := []) 43 0 rfl cw3 (tgs (show stc 7 = (3, 0) by decide) (by decide)) c7 (mx2_word_2 ez6 l) (lw_V q632 q634 qs5 q152 q635) (by decide +kernel) (by omega) rfl rfl (Nat.le_of_ble_eq_true rfl) dX2_atom_43 h
      replace h := if_t h c7
      refine gx_callT (As := []) (rest := []) (st' := [.ref (ad x0 z6.2.1)]) 43 0 cw3 (tgs (show stc 7 = (3, 0) by decide) (by decide)) c7 (mx2_word_2 ez6 l) (lw_V q632 q634 qs5 q152 q635) (by decide +kernel) (by omega) rfl rfl (Nat.le_of_ble_eq_true rfl) dX2_atom_43 rfl ?_
      obtain ⟨x1_8, ex1_8, h⟩ := bnd_e h
      refine gx_astore_nv 46 [(1, .ref (ad x0 x1_8)), (0, .ref (ad x0 7))] dX2_atom_46 (by decide) ex1_8 rfl ?_
      refine gx_aload_n 47 0 dX2_atom_47 rfl ?_
      obtain ⟨g9, h⟩ := gd_e h
      refine gx_getsR 48 1 (List.mem_of_getElem? (i := 2) rfl) q1161 g9 dX2_atom_48 ?_
      obtain ⟨z10, ez10, h⟩ := opt_e h
      refine gx_callSN (As := [.ref (ad x0 x1_8), .ref (ad x0 (z6.2.2 (-1) 101))]) (rest := []) (st' := [J z10.1]) 51 2 (mx0_find ez10 l) q840 q147 q838 q839 (by decide +kernel) (by omega) rfl rfl (Nat.le_of_ble_eq_true rfl) dX2_atom_51 rfl ?_
      obtain ⟨x2_11, ex2_11, h⟩ := bnd_e h
      refine gx_istore_n 54 [(2, J x2_11), (1, .ref (ad x0 x1_8)), (0, .ref (ad x0 7))] dX2_atom_54 (by decide) ex2_11 rfl ?_
      refine gx_iload_n 55 0 dX2_atom_55 rfl ?_
      refine gx_iconst 56 dX2_atom_56 ?_
      obtain ⟨j43, ej43, h⟩ := bnd_e h
      have hj43 : ∀ (x1_12 : Int) (s13 : XS), j43 x1_12 s13 = some res → GX l cX2_atom "VerbAtDusk$Reader" 3 (some (.object "VerbAtDusk$Value")) "atom" [] x0 D true 3 (d + 12) cN sN res s13 80 [(0, .ref (ad x0 7)), (1, .ref (ad x0 x1_12))] [] := by
        clear h
        intro x1_12 s13 h
        subst ej43
        refine gx_aload_n 80 0 dX2_atom_80 rfl ?_
        refine gx_get (t := 3) (k := 5) (v := J (s13 7 5)) 81 cw3 (by decide) (tgs (show stc 7 = (3, 0) by decide) (by decide)) q357 same_f rfl dX2_atom_81 ?_
        refine gx_sipush 84 dX2_atom_84 (by decide) ?_
        obtain ⟨j39, ej39, h⟩ := bnd_e h
        have hj39 : ∀ (x1_14 : Int) (w15 : Int) (s16 : XS), j39 x1_14 w15 s16 = some res → GX l cX2_atom "VerbAtDusk$Reader" 3 (some (.object "VerbAtDusk$Value")) "atom" [] x0 D true 3 (d + 12) cN sN res s16 101 [(0, .ref (ad x0 7)), (1, .ref (ad x0 x1_14))] [J w15] := by
          clear h
          intro x1_14 w15 s16 h
          subst ej39
          refine gx_istore_n 101 [(2, J w15), (0, .ref (ad x0 7)), (1, .ref (ad x0 x1_14))] dX2_atom_101 (by decide) rfl rfl ?_
          refine gx_iload_n 102 0 dX2_atom_102 rfl ?_
          refine gx_iconst 103 dX2_atom_103 ?_
          refine gx_icmp_eq 104 113 dX2_atom_104 (by decide) (fun c17 => ?_) (fun c17 => ?_)
          · replace h := if_t h c17
            refine gx_aload_n 113 2 dX2_atom_113 rfl ?_
            refine gx_ldcSw (j := 34) (tx := "min") 114 (by decide) rfl dX2_atom_114 ?_
            obtain ⟨g19, h⟩ := gd_e h
            obtain ⟨z18, ez18, h⟩ := opt_e h
            refine gx_callV (As := [.ref (ad x0 (s16 (-1) 134))]) (rest := []) (st' := [J z18.1]) 117 1 cw22 g19 (mj6_equals ez18 l) (lw_V q736 q737 q738 q162 q739) (by decide +kernel) (by omega) rfl rfl (Nat.le_of_ble_eq_true rfl) dX2_atom_117 rfl ?_
            obtain ⟨j30, ej30, h⟩ := bnd_e h
            have hj30 : ∀ (x1_20 : Int) (s21 : XS), j30 x1_20 s21 = some res → GX l cX2_atom "VerbAtDusk$Reader" 3 (some (.object "VerbAtDusk$Value")) "atom" [] x0 D true 3 (d + 12) cN sN res s21 143 [(0, .ref (ad x0 7)), (1, .ref (ad x0 x1_20))] [] := by
              clear h
              intro x1_20 s21 h
              subst ej30
              refine gx_aload_n 143 0 dX2_atom_143 rfl ?_
              refine gx_aload_n 144 1 dX2_atom_144 rfl ?_
              refine gx_ldcSw (j := 34) (tx := "min") 145 (by decide) rfl dX2_atom_145 ?_
              obtain ⟨g23, h⟩ := gd_e h
              obtain ⟨z22, ez22, h⟩ := opt_e h
              refine gx_callV (As := [.ref (ad x0 (s21 (-1) 134))]) (rest := [.ref (ad x0 7)]) (st' := [J z22.1, .ref (ad x0 7)]) 148 1 cw22 g23 (mj6_equals ez22 l) (lw_V q736 q737 q738 q162 q739) (by decide +kernel) (by omega) rfl rfl (Nat.le_of_ble_eq_true rfl) dX2_atom_148 rfl ?_
              obtain ⟨j28, ej28, h⟩ := bnd_e h
              have hj28 : ∀ (w24 : Int) (s25 : XS), j28 w24 s25 = some res → GX l cX2_atom "VerbAtDusk$Reader" 3 (some (.object "VerbAtDusk$Value")) "atom" [] x0 D true 3 (d + 12) cN sN res s25 159 [] [J w24, .ref (ad x0 7)] := by
                clear h
                intro w24 s25 h
                subst ej28
                obtain ⟨z26, ez26, h⟩ := opt_e h
                by_cases c27 : z26.1 = 0
                rotate_left
                · replace h := if_f h c27
                  exact gx_callTX (As := [J w24]) (rest := []) 159 1 rfl cw3 (tgs (show stc 7 = (3, 0) by decide) (by decide)) c27 (mx2_within hrc ez26) (lw_V q1131 q1133 qs29 q152 q1134) (by decide +kernel) (by omega) rfl rfl (Nat.le_of_ble_eq_true rfl) dX2_atom_159 h
                replace h := if_t h c27
                refine gx_callT (As := [J w24]) (rest := []) (st' := [.ref (ad x0 z26.2.1)]) 159 1 cw3 (tgs (show stc 7 = (3, 0) by decide) (by decide)) c27 (mx2_within hrc ez26) (lw_V q1131 q1133 qs29 q152 q1134) (by decide +kernel) (by omega) rfl rfl (Nat.le_of_ble_eq_true rfl) dX2_atom_159 rfl ?_
                exact gx_aret 162 (Or.inl ⟨_, rfl⟩) dX2_atom_162 h
              refine gx_if_eq 151 158 dX2_atom_151 (by decide) (fun c29 => ?_) (fun c29 => ?_)
              · replace h := if_t h c29
                refine gx_iconst 158 dX2_atom_158 ?_
                refine gx_sub [] rfl ?_
                exact hj28 _ _ h
              · replace h := if_f h c29
                refine gx_iconst 154 dX2_atom_154 ?_
                refine gx_goto 155 159 dX2_atom_155 (by decide) ?_
                refine gx_sub [] rfl ?_
                exact hj28 _ _ h
            refine gx_if_ne 120 143 dX2_atom_120 (by decide) (fun c31 => ?_) (fun c31 => ?_)
            · replace h := if_f h c31
              refine gx_sub [1, 2] rfl ?_
              exact hj30 _ _ h
            · replace h := if_t h c31
              refine gx_aload_n 123 2 dX2_atom_123 rfl ?_
              refine gx_ldcSw (j := 35) (tx := "max") 124 (by decide) rfl dX2_atom_124 ?_
              obtain ⟨g33, h⟩ := gd_e h
              obtain ⟨z32, ez32, h⟩ := opt_e h
              refine gx_callV (As := [.ref (ad x0 (z18.2 (-1) 135))]) (rest := []) (st' := [J z32.1]) 127 1 cw22 g33 (mj6_equals ez32 l) (lw_V q736 q737 q738 q162 q739) (by decide +kernel) (by omega) rfl rfl (Nat.le_of_ble_eq_true rfl) dX2_atom_127 rfl ?_
              refine gx_if_ne 130 143 dX2_atom_130 (by decide) (fun c34 => ?_) (fun c34 => ?_)
              · replace h := if_f h c34
                refine gx_sub [1, 2] rfl ?_
                exact hj30 _ _ h
              · replace h := if_t h c34
                refine gx_aload_n 133 1 dX2_atom_133 rfl ?_
                refine gx_iconst 134 dX2_atom_134 ?_
                refine gx_aload_n 135 1 dX2_atom_135 rfl ?_
                refine gx_get (t := 3) (k := 3) (v := J (z32.2 7 3)) 136 cw3 (by decide) (tgs (show stc 7 = (3, 0) by decide) (by decide)) q355 same_f rfl dX2_atom_136 ?_
                obtain ⟨z35, ez35, h⟩ := opt_e h
                refine gx_callV (As := [J 1, J (z32.2 7 3)]) (rest := []) (st' := [.ref (ad x0 z35.1)]) 139 2 cw3 (tgs (show stc 7 = (3, 0) by decide) (by decide)) (mx2_wrong ez35 l) (lw_V q647 q649 qs8 q152 q650) (by decide +kernel) (by omega) rfl rfl (Nat.le_of_ble_eq_true rfl) dX2_atom_139 rfl ?_
                obtain ⟨g36, h⟩ := gd_e h
                rw [g36]
                exact gx_athrowE 142 rfl rfl (tgs (show stc 8 = (4, 0) by decide) (by decide)) cw4 dX2_atom_142 h
          · replace h := if_f h c17
            refine gx_aload_n 107 1 dX2_atom_107 rfl ?_
            refine gx_iload_n 108 0 dX2_atom_108 rfl ?_
            obtain ⟨z37, ez37, h⟩ := opt_e h
            by_cases c38 : z37.1 = 0
            rotate_left
            · replace h := if_f h c38
              exact gx_callTX (As := [J w15]) (rest := []) 109 1 rfl cw3 (tgs (show stc 7 = (3, 0) by decide) (by decide)) c38 (mx2_looked hrc ez37) (lw_V q1175 q1177 qs30 q152 q1178) (by decide +kernel) (by omega) rfl rfl (Nat.le_of_ble_eq_true rfl) dX2_atom_109 h
            replace h := if_t h c38
            refine gx_callT (As := [J w15]) (rest := []) (st' := [.ref (ad x0 z37.2.1)]) 109 1 cw3 (tgs (show stc 7 = (3, 0) by decide) (by decide)) c38 (mx2_looked hrc ez37) (lw_V q1175 q1177 qs30 q152 q1178) (by decide +kernel) (by omega) rfl rfl (Nat.le_of_ble_eq_true rfl) dX2_atom_109 rfl ?_
            exact gx_aret 112 (Or.inl ⟨_, rfl⟩) dX2_atom_112 h
        refine gx_icmp_ne 87 100 dX2_atom_87 (by decide) (fun c40 => ?_) (fun c40 => ?_)
        · replace h := if_f h c40
          refine gx_iconst 100 dX2_atom_100 ?_
          refine gx_sub [0, 1] rfl ?_
          exact hj39 _ _ _ h
        · replace h := if_t h c40
          refine gx_aload_n 90 1 dX2_atom_90 rfl ?_
          obtain ⟨g41, h⟩ := gd_e h
          refine gx_getsR 91 2 (List.mem_of_getElem? (i := 3) rfl) q1173 g41 dX2_atom_91 ?_
          obtain ⟨z42, ez42, h⟩ := opt_e h
          refine gx_callSN (As := [.ref (ad x0 x1_12), .ref (ad x0 (s13 (-1) 102))]) (rest := []) (st' := [J z42.1]) 94 2 (mx0_find ez42 l) q840 q147 q838 q839 (by decide +kernel) (by omega) rfl rfl (Nat.le_of_ble_eq_true rfl) dX2_atom_94 rfl ?_
          refine gx_goto 97 101 dX2_atom_97 (by decide) ?_
          refine gx_sub [0, 1] rfl ?_
          exact hj39 _ _ _ h
      refine gx_icmp_eq 57 80 dX2_atom_57 (by decide) (fun c44 => ?_) (fun c44 => ?_)
      · replace h := if_t h c44
        refine gx_sub [2, 1] rfl ?_
        exact hj43 _ _ h
      · replace h := if_f h c44
        refine gx_aload_n 60 2 dX2_atom_60 rfl ?_
        refine gx_get (t := 3) (k := 5) (v := J (z10.2 7 5)) 61 cw3 (by decide) (tgs (show stc 7 = (3, 0) by decide) (by decide)) q357 same_f rfl dX2_atom_61 ?_
        refine gx_iload_n 64 0 dX2_atom_64 rfl ?_
        obtain ⟨z45, ez45, h⟩ := opt_e h
        refine gx_callSN (As := [J (z10.2 7 5), J x2_11]) (rest := []) (st' := [J z45.1]) 65 2 (mx0_has ez45 l) q1011 q147 q1009 q1010 (by decide +kernel) (by omega) rfl rfl (Nat.le_of_ble_eq_true rfl) dX2_atom_65 rfl ?_
        refine gx_if_eq 68 80 dX2_atom_68 (by decide) (fun c46 => ?_) (fun c46 => ?_)
        · replace h := if_t h c46
          refine gx_sub [2, 1] rfl ?_
          exact hj43 _ _ h
        · replace h := if_f h c46
          obtain ⟨g47, h⟩ := gd_e h
          obtain ⟨s48, es48, h⟩ := bnd_e h
          refine gx_new (t := 17) 71 g47 cw17 tyX20 tyX20_ok (df_17 true x0 _) q1163 q1164 q184 es48 dX2_atom_71 ?_
          refine gx_dup 74 dX2_atom_74 rfl ?_
          refine gx_iload_n 75 0 dX2_atom_75 rfl ?_
          obtain ⟨z49, ez49, h⟩ := opt_e h
          refine gx_callI (As := [J x2_11]) (rest := [.ref (ad x0 (z45.2 (-1) 0))]) 76 1 (mx20_init ez49 l) q1167 q184 q1165 q1166 rfl (by decide +kernel) (by omega) rfl rfl (Nat.le_of_ble_eq_true rfl) dX2_atom_76 ?_
          exact gx_aret 79 (Or.inl ⟨_, rfl⟩) dX2_atom_79 h
    · replace h := if_f h c5
      obtain ⟨g50, h⟩ := gd_e h
      obtain ⟨s51, es51, h⟩ := bnd_e h
      refine gx_new (t := 16) 25 g50 cw16 tyX19 tyX19_ok (df_16 true x0 _) q1151 q1152 q183 es51 dX2_atom_25 ?_
      refine gx_dup 28 dX2_atom_28 rfl ?_
      refine gx_aload_n 29 0 dX2_atom_29 rfl ?_
      refine gx_iconst 30 dX2_atom_30 ?_
      refine gx_sipush 31 dX2_atom_31 (by decide) ?_
      obtain ⟨z52, ez52, h⟩ := opt_e h
      by_cases c53 : z52.1 = 0
      rotate_left
      · replace h := if_f h c53
        exact gx_callTX (As := [J 0, J 9999]) (rest := [.ref (ad x0 (z4.2 (-1) 0)), .ref (ad x0 (z4.2 (-1) 0))]) 34 2 rfl cw3 (tgs (show stc 7 = (3, 0) by decide) (by decide)) c53 (mx2_number ez52 l) (lw_V q743 q745 qs10 q152 q746) (by decide +kernel) (by omega) rfl rfl (Nat.le_of_ble_eq_true rfl) dX2_atom_34 h
      replace h := if_t h c53
      refine gx_callT (As := [J 0, J 9999]) (rest := [.ref (ad x0 (z4.2 (-1) 0)), .ref (ad x0 (z4.2 (-1) 0))]) (st' := [J z52.2.1, .ref (ad x0 (z4.2 (-1) 0)), .ref (ad x0 (z4.2 (-1) 0))]) 34 2 cw3 (tgs (show stc 7 = (3, 0) by decide) (by decide)) c53 (mx2_number ez52 l) (lw_V q743 q745 qs10 q152 q746) (by decide +kernel) (by omega) rfl rfl (Nat.le_of_ble_eq_true rfl) dX2_atom_34 rfl ?_
      refine gx_i2l 37 dX2_atom_37 ?_
      obtain ⟨z54, ez54, h⟩ := opt_e h
      refine gx_callI (As := [Lg (i32 z52.2.1)]) (rest := [.ref (ad x0 (z4.2 (-1) 0))]) 38 1 (mx19_init ez54 l) q1155 q183 q1153 q1154 rfl (by decide +kernel) (by omega) rfl rfl (Nat.le_of_ble_eq_true rfl) dX2_atom_38 ?_
      exact gx_aret 41 (Or.inl ⟨_, rfl⟩) dX2_atom_41 h
  · replace h := if_t h c2
    refine gx_aload_n 9 0 dX2_atom_9 rfl ?_
    refine gx_iconst 10 dX2_atom_10 ?_
    obtain ⟨z55, ez55, h⟩ := opt_e h
    by_cases c56 : z55.1 = 0
    rotate_left
    · replace h := if_f h c56
      exact gx_callTX (As := [J 0]) (rest := []) 11 1 rfl cw3 (tgs (show stc 7 = (3, 0) by decide) (by decide)) c56 (mx2_within hrc ez55) (lw_V q1131 q1133 qs29 q152 q1134) (by decide +kernel) (by omega) rfl rfl (Nat.le_of_ble_eq_true rfl) dX2_atom_11 h
    replace h := if_t h c56
    refine gx_callT (As := [J 0]) (rest := []) (st' := [.ref (ad x0 z55.2.1)]) 11 1 cw3 (tgs (show stc 7 = (3, 0) by decide) (by decide)) c56 (mx2_within hrc ez55) (lw_V q1131 q1133 qs29 q152 q1134) (by decide +kernel) (by omega) rfl rfl (Nat.le_of_ble_eq_true rfl) dX2_atom_11 rfl ?_
    exact gx_aret 14 (Or.inl ⟨_, rfl⟩) dX2_atom_14 h
theorem mx2_atom_n {x0 : Nat} {D : XD} {l : Launch} : ∀ (n : Nat) (t_ : XS) (z_ : RX), x2_atom n t_ = some z_ → XMet l yX2_atom cX2_atom 3 (some (.object "VerbAtDusk$Value")) (12 * n) true x0 D [.ref (ad x0 7)] t_ 3 z_ := by
  intro n
  induction n with
  | zero => intro t_ z_ h; cases h
  | succ n ih =>
    intro t_ z_ h
    rw [x2_atom] at h
    have := mx2_atom_B (d := 12 * n) ih h
    rw [Nat.mul_succ]
    exact this
theorem mx2_atom {x0 : Nat} {D : XD} {t_ : XS} {z_ : RX} (h : x2_atom 9 t_ = some z_) (l : Launch) : XMet l yX2_atom cX2_atom 3 (some (.object "VerbAtDusk$Value")) 108 true x0 D [.ref (ad x0 7)] t_ 3 z_ := mx2_atom_n 9 _ _ h
/-! VerbAtDusk$Reader.both -/
noncomputable def x2_both_L23 (rc : XS → Option RX) (k50 : Int → XS → Option RX) : Nat → Int → XS → Option RX
  | 0, _, _ => none
  | n + 1, x1_11, s12 =>
    Option.bind (x2_passes (s12 (-1) 136) s12) fun z15 =>
    if z15.1 = 0 then
    if i32 z15.2.1 = 0 then
      k50 x1_11 z15.2.2
    else
      gd (tg true z15.2.2 x1_11 = 11) <|
      gd (¬ (z15.2.2 x1_11 0) = -1) <|
      Option.bind (rc z15.2.2) fun z20 =>
      if z20.1 = 0 then
      gd (tg true z20.2.2 (z15.2.2 x1_11 0) = 21) <|
      Option.bind (j2_add true (z15.2.2 x1_11 0) z20.2.1 z20.2.2) fun z22 =>
      x2_both_L23 rc k50 n x1_11 z22.2
      else some (1, 0, z20.2.2)
    else some (1, 0, z15.2.2)
noncomputable def x2_both (rc : XS → Option RX) (s0 : XS) : Option RX :=
  gd (0 ≤ s0 (-1) 0 ∧ 0 ≤ s0 (-1) 1) <|
  bnd (nwx s0 11 0 2 (dfl 11)) fun s2 =>
  Option.bind (x13_init true (s0 (-1) 0) 1 s2) fun z3 =>
  bnd (s0 (-1) 0) fun x1_4 =>
  gd (tg true z3.2 x1_4 = 11) <|
  gd (¬ (z3.2 x1_4 0) = -1) <|
  Option.bind (rc z3.2) fun z7 =>
  if z7.1 = 0 then
  gd (tg true z7.2.2 (z3.2 x1_4 0) = 21) <|
  Option.bind (j2_add true (z3.2 x1_4 0) z7.2.1 z7.2.2) fun z9 =>
  x2_both_L23 rc
    (fun (x1_24 : Int) (s25 : XS) =>
      some (0, x1_24, s25))
    FU x1_4 z9.2
  else some (1, 0, z7.2.2)
theorem wx2_both_L23 {l : Launch} {x0 : Nat} {D : XD} {cN sN : Nat} {res : RX} {rc : XS → Option RX} {d : Nat} (hrc : ∀ (t_ : XS) (z_ : RX), rc  t_ = some z_ → XMet l yX2_fact cX2_fact 3 (some (.object "VerbAtDusk$Test")) d true x0 D [.ref (ad x0 7)] t_ 3 z_) {k50 : Int → XS → Option RX} (hk50 : ∀ (x1_13 : Int) (s14 : XS), k50 x1_13 s14 = some res → GX l cX2_both "VerbAtDusk$Reader" 2 (some (.object "VerbAtDusk$Test")) "both" [] x0 D true 3 (d + 8) cN sN res s14 50 [(1, .ref (ad x0 x1_13))] []) : ∀ (n : Nat) (x1_11 : Int) (s12 : XS), x2_both_L23 rc k50 n x1_11 s12 = some res → GX l cX2_both "VerbAtDusk$Reader" 2 (some (.object "VerbAtDusk$Test")) "both" [] x0 D true 3 (d + 8) cN sN res s12 23 [(0, .ref (ad x0 7)), (1, .ref (ad x0 x1_11))] [] := by
  intro n
  induction n with
  | zero =>
    intro x1_11 s12 h
    cases h
  | succ n ih =>
    intro x1_11 s12 h
    rw [x2_both_L23] at h
    refine gx_aload_n 23 0 dX2_both_23 rfl ?_
    refine gx_ldcSw (j := 36) (tx := "and") 24 (by decide) rfl dX2_both_24 ?_
    obtain ⟨z15, ez15, h⟩ := opt_e h
    by_cases c16 : z15.1 = 0
    rotate_left
    · replace h := if_f h c16
      exact gx_callTX (As := [.ref (ad x0 (s12 (-1) 136))]) (rest := []) 27 1 rfl cw3 (tgs (show stc 7 = (3, 0) by decide) (by decide)) c16 (mx2_passes ez15 l) (lw_V q1056 q1058 qs25 q152 q1059) (by decide +kernel) (by omega) rfl rfl (Nat.le_of_ble_eq_true rfl) dX2_both_27 h
    replace h := if_t h c16
    refine gx_callT (As := [.ref (ad x0 (s12 (-1) 136))]) (rest := []) (st' := [J z15.2.1]) 27 1 cw3 (tgs (show stc 7 = (3, 0) by decide) (by decide)) c16 (mx2_passes ez15 l) (lw_V q1056 q1058 qs25 q152 q1059) (by decide +kernel) (by omega) rfl rfl (Nat.le_of_ble_eq_true rfl) dX2_both_27 rfl ?_
    refine gx_if_eq 30 50 dX2_both_30 (by decide) (fun c17 => ?_) (fun c17 => ?_)
    · replace h := if_t h c17
      refine gx_sub [1] rfl ?_
      exact hk50 _ _ h
    · replace h := if_f h c17
      refine gx_aload_n 33 1 dX2_both_33 rfl ?_
      obtain ⟨g18, h⟩ := gd_e h
      obtain ⟨g19, h⟩ := gd_e h
      refine gx_getN (t := 11) (k := 0) (v := .ref (ad x0 (z15.2.2 x1_11 0))) 34 cw11 (by decide) g18 q1036 same_f (rf_ne g19) dX2_both_34 ?_
      refine gx_aload_n 37 0 dX2_both_37 rfl ?_
      obtain ⟨z20, ez20, h⟩ := opt_e h
      by_cases c21 : z20.1 = 0
      rotate_left
      · replace h := if_f h c21
        exact gx_callTX (As := []) (rest := [.ref (ad x0 (z15.2.2 x1_11 0))]) 38 0 rfl cw3 (tgs (show stc 7 = (3, 0) by decide) (by decide)) c21 (hrc  _ _ ez20) (lw_V q1047 q1049 qs23 q152 q1050) (by decide +kernel) (by omega) rfl rfl (Nat.le_of_ble_eq_true rfl) dX2_both_38 h
      replace h := if_t h c21
      refine gx_callT (As := []) (rest := [.ref (ad x0 (z15.2.2 x1_11 0))]) (st' := [.ref (ad x0 z20.2.1), .ref (ad x0 (z15.2.2 x1_11 0))]) 38 0 cw3 (tgs (show stc 7 = (3, 0) by decide) (by decide)) c21 (hrc  _ _ ez20) (lw_V q1047 q1049 qs23 q152 q1050) (by decide +kernel) (by omega) rfl rfl (Nat.le_of_ble_eq_true rfl) dX2_both_38 rfl ?_
      obtain ⟨g23, h⟩ := gd_e h
      obtain ⟨z22, ez22, h⟩ := opt_e h
      refine gx_callF (As := [.ref (ad x0 z20.2.1)]) (rest := []) (st' := [J z22.1]) 41 1 cw21 rfl g23  (mj2_add ez22 l) (lw_app (lw_in4 q912 q915 q917 q151) (lw_meth q919)) (by decide) (by decide +kernel) (by omega) rfl rfl (Nat.le_of_ble_eq_true rfl) dX2_both_41 rfl ?_
      refine gx_pop 46 dX2_both_46 rfl ?_
      refine gx_goto 47 23 dX2_both_47 (by decide) ?_
      refine gx_sub [0, 1] rfl ?_
      exact ih _ _ h
theorem mx2_both {rc : XS → Option RX} {d : Nat} {x0 : Nat} {D : XD} {s0 : XS} {res : RX} {l : Launch} (hrc : ∀ (t_ : XS) (z_ : RX), rc  t_ = some z_ → XMet l yX2_fact cX2_fact 3 (some (.object "VerbAtDusk$Test")) d true x0 D [.ref (ad x0 7)] t_ 3 z_) (h : x2_both rc s0 = some res) : XMet l yX2_both cX2_both 2 (some (.object "VerbAtDusk$Test")) (d + 8) true x0 D [.ref (ad x0 7)] s0 3 res := by
  refine XMet.ofn [(0, .ref (ad x0 7))] "VerbAtDusk$Reader" "both" rfl rfl (by decide) (Nat.le_of_ble_eq_true rfl) rfl ?_
  unfold x2_both at h
  generalize nC s0 = cN
  generalize nS s0 = sN
  obtain ⟨g1, h⟩ := gd_e h
  obtain ⟨s2, es2, h⟩ := bnd_e h
  refine gx_new (t := 11) 0 g1 cw11 tyX13 tyX13_ok (df_11 true x0 _) q1024 q1025 q175 es2 dX2_both_0 ?_
  refine gx_dup 3 dX2_both_3 rfl ?_
  refine gx_iconst 4 dX2_both_4 ?_
  obtain ⟨z3, ez3, h⟩ := opt_e h
  refine gx_callI (As := [J 1]) (rest := [.ref (ad x0 (s0 (-1) 0))]) 5 1 (mx13_init ez3 l) q1028 q175 q1026 q1027 rfl (by decide +kernel) (by omega) rfl rfl (Nat.le_of_ble_eq_true rfl) dX2_both_5 ?_
  obtain ⟨x1_4, ex1_4, h⟩ := bnd_e h
  refine gx_astore_nv 8 [(1, .ref (ad x0 x1_4)), (0, .ref (ad x0 7))] dX2_both_8 (by decide) ex1_4 rfl ?_
  refine gx_aload_n 9 0 dX2_both_9 rfl ?_
  obtain ⟨g5, h⟩ := gd_e h
  obtain ⟨g6, h⟩ := gd_e h
  refine gx_getN (t := 11) (k := 0) (v := .ref (ad x0 (z3.2 x1_4 0))) 10 cw11 (by decide) g5 q1036 same_f (rf_ne g6) dX2_both_10 ?_
  refine gx_aload_n 13 1 dX2_both_13 rfl ?_
  obtain ⟨z7, ez7, h⟩ := opt_e h
  by_cases c8 : z7.1 = 0
  rotate_left
  · replace h := if_f h c8
    exact gx_callTX (As := []) (rest := [.ref (ad x0 (z3.2 x1_4 0))]) 14 0 rfl cw3 (tgs (show stc 7 = (3, 0) by decide) (by decide)) c8 (hrc  _ _ ez7) (lw_V q1047 q1049 qs23 q152 q1050) (by decide +kernel) (by omega) rfl rfl (Nat.le_of_ble_eq_true rfl) dX2_both_14 h
  replace h := if_t h c8
  refine gx_callT (As := []) (rest := [.ref (ad x0 (z3.2 x1_4 0))]) (st' := [.ref (ad x0 z7.2.1), .ref (ad x0 (z3.2 x1_4 0))]) 14 0 cw3 (tgs (show stc 7 = (3, 0) by decide) (by decide)) c8 (hrc  _ _ ez7) (lw_V q1047 q1049 qs23 q152 q1050) (by decide +kernel) (by omega) rfl rfl (Nat.le_of_ble_eq_true rfl) dX2_both_14 rfl ?_
  obtain ⟨g10, h⟩ := gd_e h
  obtain ⟨z9, ez9, h⟩ := opt_e h
  refine gx_callF (As := [.ref (ad x0 z7.2.1)]) (rest := []) (st' := [J z9.1]) 17 1 cw21 rfl g10  (mj2_add ez9 l) (lw_app (lw_in4 q912 q915 q917 q151) (lw_meth q919)) (by decide) (by decide +kernel) (by omega) rfl rfl (Nat.le_of_ble_eq_true rfl) dX2_both_17 rfl ?_
  refine gx_pop 22 dX2_both_22 rfl ?_
  refine gx_sub [1, 0] rfl ?_
  refine wx2_both_L23 hrc (fun x1_24 s25 h => ?_) FU _ _ h
  · refine gx_aload_n 50 0 dX2_both_50 rfl ?_
    exact gx_aret 51 (Or.inl ⟨_, rfl⟩) dX2_both_51 h
/-! VerbAtDusk$Reader.test -/
noncomputable def x2_test_L23 (rc : XS → Option RX) (k50 : Int → XS → Option RX) : Nat → Int → XS → Option RX
  | 0, _, _ => none
  | n + 1, x1_11, s12 =>
    Option.bind (x2_passes (s12 (-1) 137) s12) fun z15 =>
    if z15.1 = 0 then
    if i32 z15.2.1 = 0 then
      k50 x1_11 z15.2.2
    else
      gd (tg true z15.2.2 x1_11 = 11) <|
      gd (¬ (z15.2.2 x1_11 0) = -1) <|
      Option.bind (x2_both rc z15.2.2) fun z20 =>
      if z20.1 = 0 then
      gd (tg true z20.2.2 (z15.2.2 x1_11 0) = 21) <|
      Option.bind (j2_add true (z15.2.2 x1_11 0) z20.2.1 z20.2.2) fun z22 =>
      x2_test_L23 rc k50 n x1_11 z22.2
      else some (1, 0, z20.2.2)
    else some (1, 0, z15.2.2)
noncomputable def x2_test (rc : XS → Option RX) (s0 : XS) : Option RX :=
  gd (0 ≤ s0 (-1) 0 ∧ 0 ≤ s0 (-1) 1) <|
  bnd (nwx s0 11 0 2 (dfl 11)) fun s2 =>
  Option.bind (x13_init true (s0 (-1) 0) 0 s2) fun z3 =>
  bnd (s0 (-1) 0) fun x1_4 =>
  gd (tg true z3.2 x1_4 = 11) <|
  gd (¬ (z3.2 x1_4 0) = -1) <|
  Option.bind (x2_both rc z3.2) fun z7 =>
  if z7.1 = 0 then
  gd (tg true z7.2.2 (z3.2 x1_4 0) = 21) <|
  Option.bind (j2_add true (z3.2 x1_4 0) z7.2.1 z7.2.2) fun z9 =>
  x2_test_L23 rc
    (fun (x1_24 : Int) (s25 : XS) =>
      some (0, x1_24, s25))
    FU x1_4 z9.2
  else some (1, 0, z7.2.2)
theorem wx2_test_L23 {l : Launch} {x0 : Nat} {D : XD} {cN sN : Nat} {res : RX} {rc : XS → Option RX} {d : Nat} (hrc : ∀ (t_ : XS) (z_ : RX), rc  t_ = some z_ → XMet l yX2_fact cX2_fact 3 (some (.object "VerbAtDusk$Test")) d true x0 D [.ref (ad x0 7)] t_ 3 z_) {k50 : Int → XS → Option RX} (hk50 : ∀ (x1_13 : Int) (s14 : XS), k50 x1_13 s14 = some res → GX l cX2_test "VerbAtDusk$Reader" 2 (some (.object "VerbAtDusk$Test")) "test" [] x0 D true 3 (d + 9) cN sN res s14 50 [(1, .ref (ad x0 x1_13))] []) : ∀ (n : Nat) (x1_11 : Int) (s12 : XS), x2_test_L23 rc k50 n x1_11 s12 = some res → GX l cX2_test "VerbAtDusk$Reader" 2 (some (.object "VerbAtDusk$Test")) "test" [] x0 D true 3 (d + 9) cN sN res s12 23 [(0, .ref (ad x0 7)), (1, .ref (ad x0 x1_11))] [] := by
  intro n
  induction n with
  | zero =>
    intro x1_11 s12 h
    cases h
  | succ n ih =>
    intro x1_11 s12 h
    rw [x2_test_L23] at h
    refine gx_aload_n 23 0 dX2_test_23 rfl ?_
    refine gx_ldcSw (j := 37) (tx := "or") 24 (by decide) rfl dX2_test_24 ?_
    obtain ⟨z15, ez15, h⟩ := opt_e h
    by_cases c16 : z15.1 = 0
    rotate_left
    · replace h := if_f h c16
      exact gx_callTX (As := [.ref (ad x0 (s12 (-1) 137))]) (rest := []) 27 1 rfl cw3 (tgs (show stc 7 = (3, 0) by decide) (by decide)) c16 (mx2_passes ez15 l) (lw_V q1056 q1058 qs25 q152 q1059) (by decide +kernel) (by omega) rfl rfl (Nat.le_of_ble_eq_true rfl) dX2_test_27 h
    replace h := if_t h c16
    refine gx_callT (As := [.ref (ad x0 (s12 (-1) 137))]) (rest := []) (st' := [J z15.2.1]) 27 1 cw3 (tgs (show stc 7 = (3, 0) by decide) (by decide)) c16 (mx2_passes ez15 l) (lw_V q1056 q1058 qs25 q152 q1059) (by decide +kernel) (by omega) rfl rfl (Nat.le_of_ble_eq_true rfl) dX2_test_27 rfl ?_
    refine gx_if_eq 30 50 dX2_test_30 (by decide) (fun c17 => ?_) (fun c17 => ?_)
    · replace h := if_t h c17
      refine gx_sub [1] rfl ?_
      exact hk50 _ _ h
    · replace h := if_f h c17
      refine gx_aload_n 33 1 dX2_test_33 rfl ?_
      obtain ⟨g18, h⟩ := gd_e h
      obtain ⟨g19, h⟩ := gd_e h
      refine gx_getN (t := 11) (k := 0) (v := .ref (ad x0 (z15.2.2 x1_11 0))) 34 cw11 (by decide) g18 q1036 same_f (rf_ne g19) dX2_test_34 ?_
      refine gx_aload_n 37 0 dX2_test_37 rfl ?_
      obtain ⟨z20, ez20, h⟩ := opt_e h
      by_cases c21 : z20.1 = 0
      rotate_left
      · replace h := if_f h c21
        exact gx_callTX (As := []) (rest := [.ref (ad x0 (z15.2.2 x1_11 0))]) 38 0 rfl cw3 (tgs (show stc 7 = (3, 0) by decide) (by decide)) c21 (mx2_both hrc ez20) (lw_V q1043 q1045 qs22 q152 q1046) (by decide +kernel) (by omega) rfl rfl (Nat.le_of_ble_eq_true rfl) dX2_test_38 h
      replace h := if_t h c21
      refine gx_callT (As := []) (rest := [.ref (ad x0 (z15.2.2 x1_11 0))]) (st' := [.ref (ad x0 z20.2.1), .ref (ad x0 (z15.2.2 x1_11 0))]) 38 0 cw3 (tgs (show stc 7 = (3, 0) by decide) (by decide)) c21 (mx2_both hrc ez20) (lw_V q1043 q1045 qs22 q152 q1046) (by decide +kernel) (by omega) rfl rfl (Nat.le_of_ble_eq_true rfl) dX2_test_38 rfl ?_
      obtain ⟨g23, h⟩ := gd_e h
      obtain ⟨z22, ez22, h⟩ := opt_e h
      refine gx_callF (As := [.ref (ad x0 z20.2.1)]) (rest := []) (st' := [J z22.1]) 41 1 cw21 rfl g23  (mj2_add ez22 l) (lw_app (lw_in4 q912 q915 q917 q151) (lw_meth q919)) (by decide) (by decide +kernel) (by omega) rfl rfl (Nat.le_of_ble_eq_true rfl) dX2_test_41 rfl ?_
      refine gx_pop 46 dX2_test_46 rfl ?_
      refine gx_goto 47 23 dX2_test_47 (by decide) ?_
      refine gx_sub [0, 1] rfl ?_
      exact ih _ _ h
theorem mx2_test {rc : XS → Option RX} {d : Nat} {x0 : Nat} {D : XD} {s0 : XS} {res : RX} {l : Launch} (hrc : ∀ (t_ : XS) (z_ : RX), rc  t_ = some z_ → XMet l yX2_fact cX2_fact 3 (some (.object "VerbAtDusk$Test")) d true x0 D [.ref (ad x0 7)] t_ 3 z_) (h : x2_test rc s0 = some res) : XMet l yX2_test cX2_test 2 (some (.object "VerbAtDusk$Test")) (d + 9) true x0 D [.ref (ad x0 7)] s0 3 res := by
  refine XMet.ofn [(0, .ref (ad x0 7))] "VerbAtDusk$Reader" "test" rfl rfl (by decide) (Nat.le_of_ble_eq_true rfl) rfl ?_
  unfold x2_test at h
  generalize nC s0 = cN
  generalize nS s0 = sN
  obtain ⟨g1, h⟩ := gd_e h
  obtain ⟨s2, es2, h⟩ := bnd_e h
  refine gx_new (t := 11) 0 g1 cw11 tyX13 tyX13_ok (df_11 true x0 _) q1024 q1025 q175 es2 dX2_test_0 ?_
  refine gx_dup 3 dX2_test_3 rfl ?_
  refine gx_iconst 4 dX2_test_4 ?_
  obtain ⟨z3, ez3, h⟩ := opt_e h
  refine gx_callI (As := [J 0]) (rest := [.ref (ad x0 (s0 (-1) 0))]) 5 1 (mx13_init ez3 l) q1028 q175 q1026 q1027 rfl (by decide +kernel) (by omega) rfl rfl (Nat.le_of_ble_eq_true rfl) dX2_test_5 ?_
  obtain ⟨x1_4, ex1_4, h⟩ := bnd_e h
  refine gx_astore_nv 8 [(1, .ref (ad x0 x1_4)), (0, .ref (ad x0 7))] dX2_test_8 (by decide) ex1_4 rfl ?_
  refine gx_aload_n 9 0 dX2_test_9 rfl ?_
  obtain ⟨g5, h⟩ := gd_e h
  obtain ⟨g6, h⟩ := gd_e h
  refine gx_getN (t := 11) (k := 0) (v := .ref (ad x0 (z3.2 x1_4 0))) 10 cw11 (by decide) g5 q1036 same_f (rf_ne g6) dX2_test_10 ?_
  refine gx_aload_n 13 1 dX2_test_13 rfl ?_
  obtain ⟨z7, ez7, h⟩ := opt_e h
  by_cases c8 : z7.1 = 0
  rotate_left
  · replace h := if_f h c8
    exact gx_callTX (As := []) (rest := [.ref (ad x0 (z3.2 x1_4 0))]) 14 0 rfl cw3 (tgs (show stc 7 = (3, 0) by decide) (by decide)) c8 (mx2_both hrc ez7) (lw_V q1043 q1045 qs22 q152 q1046) (by decide +kernel) (by omega) rfl rfl (Nat.le_of_ble_eq_true rfl) dX2_test_14 h
  replace h := if_t h c8
  refine gx_callT (As := []) (rest := [.ref (ad x0 (z3.2 x1_4 0))]) (st' := [.ref (ad x0 z7.2.1), .ref (ad x0 (z3.2 x1_4 0))]) 14 0 cw3 (tgs (show stc 7 = (3, 0) by decide) (by decide)) c8 (mx2_both hrc ez7) (lw_V q1043 q1045 qs22 q152 q1046) (by decide +kernel) (by omega) rfl rfl (Nat.le_of_ble_eq_true rfl) dX2_test_14 rfl ?_
  obtain ⟨g10, h⟩ := gd_e h
  obtain ⟨z9, ez9, h⟩ := opt_e h
  refine gx_callF (As := [.ref (ad x0 z7.2.1)]) (rest := []) (st' := [J z9.1]) 17 1 cw21 rfl g10  (mj2_add ez9 l) (lw_app (lw_in4 q912 q915 q917 q151) (lw_meth q919)) (by decide) (by decide +kernel) (by omega) rfl rfl (Nat.le_of_ble_eq_true rfl) dX2_test_17 rfl ?_
  refine gx_pop 22 dX2_test_22 rfl ?_
  refine gx_sub [1, 0] rfl ?_
  refine wx2_test_L23 hrc (fun x1_24 s25 h => ?_) FU _ _ h
  · refine gx_aload_n 50 0 dX2_test_50 rfl ?_
    exact gx_aret 51 (Or.inl ⟨_, rfl⟩) dX2_test_51 h
/-! VerbAtDusk$Reader.fact -/
noncomputable def x2_fact_B (rc : XS → Option RX) (s0 : XS) : Option RX :=
  Option.bind (x2_here s0) fun z1 =>
  if i32 z1.1 = i32 91 then
    Option.bind (x2_opens (z1.2 7 2) z1.2) fun z41 =>
    if z41.1 = 0 then
    bnd (ux z41.2.2 7 2 ((z41.2.2 7 2) + 1)) fun s43 =>
    Option.bind (x2_test rc s43) fun z44 =>
    if z44.1 = 0 then
    bnd z44.2.1 fun x1_46 =>
    Option.bind (x2_must 93 z44.2.2) fun z47 =>
    if z47.1 = 0 then
    bnd (ux z47.2.2 7 4 ((z47.2.2 7 4) - 1)) fun s49 =>
    some (0, x1_46, s49)
    else some (1, 0, z47.2.2)
    else some (1, 0, z44.2.2)
    else some (1, 0, z41.2.2)
  else
    Option.bind (x2_passes (z1.2 (-1) 132) z1.2) fun z3 =>
    if z3.1 = 0 then
    if i32 z3.2.1 = 0 then
      Option.bind (x2_passes (z3.2.2 (-1) 133) z3.2.2) fun z6 =>
      if z6.1 = 0 then
      if i32 z6.2.1 = 0 then
        Option.bind (x2_sum (x2_atom 9) z6.2.2) fun z9 =>
        if z9.1 = 0 then
        bnd z9.2.1 fun x1_11 =>
        Option.bind (x2_here z9.2.2) fun z12 =>
        bnd z12.1 fun x2_13 =>
        bnd (fun (x1_14 : Int) (x2_15 : Int) (s16 : XS) =>
            bnd (ux s16 7 2 ((s16 7 2) + 1)) fun s17 =>
            gd (0 ≤ s17 (-1) 0 ∧ 0 ≤ s17 (-1) 1) <|
            bnd (nwx s17 19 0 3 (dfl 19)) fun s19 =>
            Option.bind (x2_sum (x2_atom 9) s19) fun z20 =>
            if z20.1 = 0 then
            Option.bind (x22_init true (s17 (-1) 0) x1_14 x2_15 z20.2.1 z20.2.2) fun z22 =>
            some (0, (s17 (-1) 0), z22.2)
            else some (1, 0, z20.2.2)) fun j23 =>
        if i32 x2_13 = i32 60 then
          j23 x1_11 x2_13 z12.2
        else
          if i32 x2_13 = i32 62 then
            j23 x1_11 x2_13 z12.2
          else
            if i32 x2_13 = i32 61 then
              j23 x1_11 x2_13 z12.2
            else
              Option.bind (x2_wrong 1 (z12.2 7 2) z12.2) fun z27 =>
              gd (z27.1 = 8) <|
              some (1, 0, z27.2)
        else some (1, 0, z9.2.2)
      else
        gd (0 ≤ z6.2.2 (-1) 0 ∧ 0 ≤ z6.2.2 (-1) 1) <|
        bnd (nwx z6.2.2 13 0 0 (dfl 13)) fun s30 =>
        Option.bind (x15_init true (z6.2.2 (-1) 0) s30) fun z31 =>
        some (0, (z6.2.2 (-1) 0), z31.2)
      else some (1, 0, z6.2.2)
    else
      Option.bind (x2_opens (z3.2.2 7 3) z3.2.2) fun z32 =>
      if z32.1 = 0 then
      gd (0 ≤ z32.2.2 (-1) 0 ∧ 0 ≤ z32.2.2 (-1) 1) <|
      bnd (nwx z32.2.2 12 0 1 (dfl 12)) fun s35 =>
      Option.bind (rc s35) fun z36 =>
      if z36.1 = 0 then
      Option.bind (x14_init true (z32.2.2 (-1) 0) z36.2.1 z36.2.2) fun z38 =>
      bnd (z32.2.2 (-1) 0) fun x1_39 =>
      bnd (ux z38.2 7 4 ((z38.2 7 4) - 1)) fun s40 =>
      some (0, x1_39, s40)
      else some (1, 0, z36.2.2)
      else some (1, 0, z32.2.2)
    else some (1, 0, z3.2.2)
noncomputable def x2_fact : Nat → XS → Option RX
  | 0, _ => none
  | n + 1, t_ => x2_fact_B (x2_fact n) t_
theorem mx2_fact_B {rc : XS → Option RX} {d : Nat} {x0 : Nat} {D : XD} {s0 : XS} {res : RX} {l : Launch} (hrc : ∀ (t_ : XS) (z_ : RX), rc  t_ = some z_ → XMet l yX2_fact cX2_fact 3 (some (.object "VerbAtDusk$Test")) d true x0 D [.ref (ad x0 7)] t_ 3 z_) (h : x2_fact_B rc s0 = some res) : XMet l yX2_fact cX2_fact 3 (some (.object "VerbAtDusk$Test")) (d + 119) true x0 D [.ref (ad x0 7)] s0 3 res := by
  refine XMet.ofn [(0, .ref (ad x0 7))] "VerbAtDusk$Reader" "fact" rfl rfl (by decide) (Nat.le_of_ble_eq_true rfl) rfl ?_
  unfold x2_fact_B at h
  generalize nC s0 = cN
  generalize nS s0 = sN
  refine gx_aload_n 0 0 dX2_fact_0 rfl ?_
  obtain ⟨z1, ez1, h⟩ := opt_e h
  refine gx_callV (As := []) (rest := []) (st' := [J z1.1]) 1 0 cw3 (tgs (show stc 7 = (3, 0) by decide) (by decide)) (mx2_here ez1 l) (lw_V q636 q638 qs6 q152 q639) (by decide +kernel) (by omega) rfl rfl (Nat.le_of_ble_eq_true rfl) dX2_fact_1 rfl ?_
  refine gx_bipush 4 dX2_fact_4 (by decide) ?_
  refine gx_icmp_ne 6 50 dX2_fact_6 (by decide) (fun c2 => ?_) (fun c2 => ?_)
  · replace h := if_f h c2
    refine gx_aload_n 50 0 dX2_fact_50 rfl ?_
    refine gx_ldcSw (j := 32) (tx := "not") 51 (by decide) rfl dX2_fact_51 ?_
    obtain ⟨z3, ez3, h⟩ := opt_e h
    by_cases c4 : z3.1 = 0
    rotate_left
    · replace h := if_f h c4
      exact gx_callTX (As := [.ref (ad x0 (z1.2 (-1) 132))]) (rest := []) 54 1 rfl cw3 (tgs (show stc 7 = (3, 0) by decide) (by decide)) c4 (mx2_passes ez3 l) (lw_V q1056 q1058 qs25 q152 q1059) (by decide +kernel) (by omega) rfl rfl (Nat.le_of_ble_eq_true rfl) dX2_fact_54 h
    replace h := if_t h c4
    refine gx_callT (As := [.ref (ad x0 (z1.2 (-1) 132))]) (rest := []) (st' := [J z3.2.1]) 54 1 cw3 (tgs (show stc 7 = (3, 0) by decide) (by decide)) c4 (mx2_passes ez3 l) (lw_V q1056 q1058 qs25 q152 q1059) (by decide +kernel) (by omega) rfl rfl (Nat.le_of_ble_eq_true rfl) dX2_fact_54 rfl ?_
    refine gx_if_eq 57 92 dX2_fact_57 (by decide) (fun c5 => ?_) (fun c5 => ?_)
    · replace h := if_t h c5
      refine gx_aload_n 92 0 dX2_fact_92 rfl ?_
      refine gx_ldcSw (j := 33) (tx := "all") 93 (by decide) rfl dX2_fact_93 ?_
      obtain ⟨z6, ez6, h⟩ := opt_e h
      by_cases c7 : z6.1 = 0
      rotate_left
      · replace h := if_f h c7
        exact gx_callTX (As := [.ref (ad x0 (z3.2.2 (-1) 133))]) (rest := []) 96 1 rfl cw3 (tgs (show stc 7 = (3, 0) by decide) (by decide)) c7 (mx2_passes ez6 l) (lw_V q1056 q1058 qs25 q152 q1059) (by decide +kernel) (by omega) rfl rfl (Nat.le_of_ble_eq_true rfl) dX2_fact_96 h
      replace h := if_t h c7
      refine gx_callT (As := [.ref (ad x0 (z3.2.2 (-1) 133))]) (rest := []) (st' := [J z6.2.1]) 96 1 cw3 (tgs (show stc 7 = (3, 0) by decide) (by decide)) c7 (mx2_passes ez6 l) (lw_V q1056 q1058 qs25 q152 q1059) (by decide +kernel) (by omega) rfl rfl (Nat.le_of_ble_eq_true rfl) dX2_fact_96 rfl ?_
      refine gx_if_eq 99 110 dX2_fact_99 (by decide) (fun c8 => ?_) (fun c8 => ?_)
      · replace h := if_t h c8
        refine gx_aload_n 110 0 dX2_fact_110 rfl ?_
        obtain ⟨z9, ez9, h⟩ := opt_e h
        by_cases c10 : z9.1 = 0
        rotate_left
        · replace h := if_f h c10
          exact gx_callTX (As := []) (rest := []) 111 0 rfl cw3 (tgs (show stc 7 = (3, 0) by decide) (by decide)) c10 (mx2_sum (mx2_atom_n (l := l) 9) ez9) (lw_V q1078 q1080 qs26 q152 q1081) (by decide +kernel) (by omega) rfl rfl (Nat.le_of_ble_eq_true rfl) dX2_fact_111 h
        replace h := if_t h c10
        refine gx_callT (As := []) (rest := []) (st' := [.ref (ad x0 z9.2.1)]) 111 0 cw3 (tgs (show stc 7 = (3, 0) by decide) (by decide)) c10 (mx2_sum (mx2_atom_n (l := l) 9) ez9) (lw_V q1078 q1080 qs26 q152 q1081) (by decide +kernel) (by omega) rfl rfl (Nat.le_of_ble_eq_true rfl) dX2_fact_111 rfl ?_
        obtain ⟨x1_11, ex1_11, h⟩ := bnd_e h
        refine gx_astore_nv 114 [(1, .ref (ad x0 x1_11)), (0, .ref (ad x0 7))] dX2_fact_114 (by decide) ex1_11 rfl ?_
        refine gx_aload_n 115 1 dX2_fact_115 rfl ?_
        obtain ⟨z12, ez12, h⟩ := opt_e h
        refine gx_callV (As := []) (rest := []) (st' := [J z12.1]) 116 0 cw3 (tgs (show stc 7 = (3, 0) by decide) (by decide)) (mx2_here ez12 l) (lw_V q636 q638 qs6 q152 q639) (by decide +kernel) (by omega) rfl rfl (Nat.le_of_ble_eq_true rfl) dX2_fact_116 rfl ?_
        obtain ⟨x2_13, ex2_13, h⟩ := bnd_e h
        refine gx_istore_n 119 [(2, J x2_13), (1, .ref (ad x0 x1_11)), (0, .ref (ad x0 7))] dX2_fact_119 (by decide) ex2_13 rfl ?_
        refine gx_iload_n 120 0 dX2_fact_120 rfl ?_
        refine gx_bipush 121 dX2_fact_121 (by decide) ?_
        obtain ⟨j23, ej23, h⟩ := bnd_e h
        have hj23 : ∀ (x1_14 : Int) (x2_15 : Int) (s16 : XS), j23 x1_14 x2_15 s16 = some res → GX l cX2_fact "VerbAtDusk$Reader" 3 (some (.object "VerbAtDusk$Test")) "fact" [] x0 D true 3 (d + 119) cN sN res s16 148 [(0, .ref (ad x0 7)), (1, .ref (ad x0 x1_14)), (2, J x2_15)] [] := by
          clear h
          intro x1_14 x2_15 s16 h
          subst ej23
          refine gx_aload_n 148 0 dX2_fact_148 rfl ?_
          refine gx_dup 149 dX2_fact_149 rfl ?_
          refine gx_get (t := 3) (k := 2) (v := J (s16 7 2)) 150 cw3 (by decide) (tgs (show stc 7 = (3, 0) by decide) (by decide)) q354 same_f rfl dX2_fact_150 ?_
          refine gx_iconst 153 dX2_fact_153 ?_
          refine gx_iadd 154 dX2_fact_154 ?_
          obtain ⟨s17, es17, h⟩ := bnd_e h
          refine gx_put (t := 3) (k := 2) (x := ((s16 7 2) + 1)) (ty := .int) 155 cw3 (by decide) (tgs (show stc 7 = (3, 0) by decide) (by decide)) (st0 (show stc 7 = (3, 0) by decide) (by decide)) (stm (show stc 7 = (3, 0) by decide) (by decide)) q354 same_f rfl (by decide +kernel) rfl rfl (congrArg J (ux_s _ _ _ _)) es17 dX2_fact_155 ?_
          obtain ⟨g18, h⟩ := gd_e h
          obtain ⟨s19, es19, h⟩ := bnd_e h
          refine gx_new (t := 19) 158 g18 cw19 tyX22 tyX22_ok (df_19 true x0 _) q1262 q1263 q186 es19 dX2_fact_158 ?_
          refine gx_dup 161 dX2_fact_161 rfl ?_
          refine gx_aload_n 162 1 dX2_fact_162 rfl ?_
          refine gx_iload_n 163 2 dX2_fact_163 rfl ?_
          refine gx_aload_n 164 0 dX2_fact_164 rfl ?_
          obtain ⟨z20, ez20, h⟩ := opt_e h
          by_cases c21 : z20.1 = 0
          rotate_left
          · replace h := if_f h c21
            exact gx_callTX (As := []) (rest := [J x2_15, .ref (ad x0 x1_14), .ref (ad x0 (s17 (-1) 0)), .ref (ad x0 (s17 (-1) 0))]) 165 0 rfl cw3 (tgs (show stc 7 = (3, 0) by decide) (by decide)) c21 (mx2_sum (mx2_atom_n (l := l) 9) ez20) (lw_V q1078 q1080 qs26 q152 q1081) (by decide +kernel) (by omega) rfl rfl (Nat.le_of_ble_eq_true rfl) dX2_fact_165 h
          replace h := if_t h c21
          refine gx_callT (As := []) (rest := [J x2_15, .ref (ad x0 x1_14), .ref (ad x0 (s17 (-1) 0)), .ref (ad x0 (s17 (-1) 0))]) (st' := [.ref (ad x0 z20.2.1), J x2_15, .ref (ad x0 x1_14), .ref (ad x0 (s17 (-1) 0)), .ref (ad x0 (s17 (-1) 0))]) 165 0 cw3 (tgs (show stc 7 = (3, 0) by decide) (by decide)) c21 (mx2_sum (mx2_atom_n (l := l) 9) ez20) (lw_V q1078 q1080 qs26 q152 q1081) (by decide +kernel) (by omega) rfl rfl (Nat.le_of_ble_eq_true rfl) dX2_fact_165 rfl ?_
          obtain ⟨z22, ez22, h⟩ := opt_e h
          refine gx_callI (As := [.ref (ad x0 x1_14), J x2_15, .ref (ad x0 z20.2.1)]) (rest := [.ref (ad x0 (s17 (-1) 0))]) 168 3 (mx22_init ez22 l) q1266 q186 q1264 q1265 rfl (by decide +kernel) (by omega) rfl rfl (Nat.le_of_ble_eq_true rfl) dX2_fact_168 ?_
          exact gx_aret 171 (Or.inl ⟨_, rfl⟩) dX2_fact_171 h
        refine gx_icmp_eq 123 148 dX2_fact_123 (by decide) (fun c24 => ?_) (fun c24 => ?_)
        · replace h := if_t h c24
          refine gx_sub [2, 1, 0] rfl ?_
          exact hj23 _ _ _ h
        · replace h := if_f h c24
          refine gx_iload_n 126 0 dX2_fact_126 rfl ?_
          refine gx_bipush 127 dX2_fact_127 (by decide) ?_
          refine gx_icmp_eq 129 148 dX2_fact_129 (by decide) (fun c25 => ?_) (fun c25 => ?_)
          · replace h := if_t h c25
            refine gx_sub [2, 1, 0] rfl ?_
            exact hj23 _ _ _ h
          · replace h := if_f h c25
            refine gx_iload_n 132 0 dX2_fact_132 rfl ?_
            refine gx_bipush 133 dX2_fact_133 (by decide) ?_
            refine gx_icmp_eq 135 148 dX2_fact_135 (by decide) (fun c26 => ?_) (fun c26 => ?_)
            · replace h := if_t h c26
              refine gx_sub [2, 1, 0] rfl ?_
              exact hj23 _ _ _ h
            · replace h := if_f h c26
              refine gx_aload_n 138 2 dX2_fact_138 rfl ?_
              refine gx_iconst 139 dX2_fact_139 ?_
              refine gx_aload_n 140 2 dX2_fact_140 rfl ?_
              refine gx_get (t := 3) (k := 2) (v := J (z12.2 7 2)) 141 cw3 (by decide) (tgs (show stc 7 = (3, 0) by decide) (by decide)) q354 same_f rfl dX2_fact_141 ?_
              obtain ⟨z27, ez27, h⟩ := opt_e h
              refine gx_callV (As := [J 1, J (z12.2 7 2)]) (rest := []) (st' := [.ref (ad x0 z27.1)]) 144 2 cw3 (tgs (show stc 7 = (3, 0) by decide) (by decide)) (mx2_wrong ez27 l) (lw_V q647 q649 qs8 q152 q650) (by decide +kernel) (by omega) rfl rfl (Nat.le_of_ble_eq_true rfl) dX2_fact_144 rfl ?_
              obtain ⟨g28, h⟩ := gd_e h
              rw [g28]
              exact gx_athrowE 147 rfl rfl (tgs (show stc 8 = (4, 0) by decide) (by decide)) cw4 dX2_fact_147 h
      · replace h := if_f h c8
        obtain ⟨g29, h⟩ := gd_e h
        obtain ⟨s30, es30, h⟩ := bnd_e h
        refine gx_new (t := 13) 102 g29 cw13 (fun _ => .int) (fun k h => absurd h (Nat.not_lt_zero k)) (df_13 true x0 _) q1071 q1072 q177 es30 dX2_fact_102 ?_
        refine gx_dup 105 dX2_fact_105 rfl ?_
        obtain ⟨z31, ez31, h⟩ := opt_e h
        refine gx_callIN (As := []) (rest := [.ref (ad x0 (z6.2.2 (-1) 0))]) 106 0 (mx15_init ez31 l) q1075 q177 q1073 q1074 rfl (by decide +kernel) (by omega) rfl rfl (Nat.le_of_ble_eq_true rfl) dX2_fact_106 ?_
        exact gx_aret 109 (Or.inl ⟨_, rfl⟩) dX2_fact_109 h
    · replace h := if_f h c5
      refine gx_aload_n 60 0 dX2_fact_60 rfl ?_
      refine gx_aload_n 61 0 dX2_fact_61 rfl ?_
      refine gx_get (t := 3) (k := 3) (v := J (z3.2.2 7 3)) 62 cw3 (by decide) (tgs (show stc 7 = (3, 0) by decide) (by decide)) q355 same_f rfl dX2_fact_62 ?_
      obtain ⟨z32, ez32, h⟩ := opt_e h
      by_cases c33 : z32.1 = 0
      rotate_left
      · replace h := if_f h c33
        exact gx_callTX (As := [J (z3.2.2 7 3)]) (rest := []) 65 1 rfl cw3 (tgs (show stc 7 = (3, 0) by decide) (by decide)) c33 (mx2_opens ez32 l) (lw_V q1051 q1053 qs24 q152 q1054) (by decide +kernel) (by omega) rfl rfl (Nat.le_of_ble_eq_true rfl) dX2_fact_65 h
      replace h := if_t h c33
      refine gx_callT (As := [J (z3.2.2 7 3)]) (rest := []) (st' := []) 65 1 cw3 (tgs (show stc 7 = (3, 0) by decide) (by decide)) c33 (mx2_opens ez32 l) (lw_V q1051 q1053 qs24 q152 q1054) (by decide +kernel) (by omega) rfl rfl (Nat.le_of_ble_eq_true rfl) dX2_fact_65 rfl ?_
      obtain ⟨g34, h⟩ := gd_e h
      obtain ⟨s35, es35, h⟩ := bnd_e h
      refine gx_new (t := 12) 68 g34 cw12 tyX14 tyX14_ok (df_12 true x0 _) q1060 q1061 q176 es35 dX2_fact_68 ?_
      refine gx_dup 71 dX2_fact_71 rfl ?_
      refine gx_aload_n 72 0 dX2_fact_72 rfl ?_
      obtain ⟨z36, ez36, h⟩ := opt_e h
      by_cases c37 : z36.1 = 0
      rotate_left
      · replace h := if_f h c37
        exact gx_callTX (As := []) (rest := [.ref (ad x0 (z32.2.2 (-1) 0)), .ref (ad x0 (z32.2.2 (-1) 0))]) 73 0 rfl cw3 (tgs (show stc 7 = (3, 0) by decide) (by decide)) c37 (hrc  _ _ ez36) (lw_V q1047 q1049 qs23 q152 q1050) (by decide +kernel) (by omega) rfl rfl (Nat.le_of_ble_eq_true rfl) dX2_fact_73 h
      replace h := if_t h c37
      refine gx_callT (As := []) (rest := [.ref (ad x0 (z32.2.2 (-1) 0)), .ref (ad x0 (z32.2.2 (-1) 0))]) (st' := [.ref (ad x0 z36.2.1), .ref (ad x0 (z32.2.2 (-1) 0)), .ref (ad x0 (z32.2.2 (-1) 0))]) 73 0 cw3 (tgs (show stc 7 = (3, 0) by decide) (by decide)) c37 (hrc  _ _ ez36) (lw_V q1047 q1049 qs23 q152 q1050) (by decide +kernel) (by omega) rfl rfl (Nat.le_of_ble_eq_true rfl) dX2_fact_73 rfl ?_
      obtain ⟨z38, ez38, h⟩ := opt_e h
      refine gx_callI (As := [.ref (ad x0 z36.2.1)]) (rest := [.ref (ad x0 (z32.2.2 (-1) 0))]) 76 1 (mx14_init ez38 l) q1064 q176 q1062 q1063 rfl (by decide +kernel) (by omega) rfl rfl (Nat.le_of_ble_eq_true rfl) dX2_fact_76 ?_
      obtain ⟨x1_39, ex1_39, h⟩ := bnd_e h
      refine gx_astore_nv 79 [(1, .ref (ad x0 x1_39)), (0, .ref (ad x0 7))] dX2_fact_79 (by decide) ex1_39 rfl ?_
      refine gx_aload_n 80 1 dX2_fact_80 rfl ?_
      refine gx_dup 81 dX2_fact_81 rfl ?_
      refine gx_get (t := 3) (k := 4) (v := J (z38.2 7 4)) 82 cw3 (by decide) (tgs (show stc 7 = (3, 0) by decide) (by decide)) q356 same_f rfl dX2_fact_82 ?_
      refine gx_iconst 85 dX2_fact_85 ?_
      refine gx_isub 86 dX2_fact_86 ?_
      obtain ⟨s40, es40, h⟩ := bnd_e h
      refine gx_put (t := 3) (k := 4) (x := ((z38.2 7 4) - 1)) (ty := .int) 87 cw3 (by decide) (tgs (show stc 7 = (3, 0) by decide) (by decide)) (st0 (show stc 7 = (3, 0) by decide) (by decide)) (stm (show stc 7 = (3, 0) by decide) (by decide)) q356 same_f rfl (by decide +kernel) rfl rfl (congrArg J (ux_s _ _ _ _)) es40 dX2_fact_87 ?_
      refine gx_aload_n 90 0 dX2_fact_90 rfl ?_
      exact gx_aret 91 (Or.inl ⟨_, rfl⟩) dX2_fact_91 h
  · replace h := if_t h c2
    refine gx_aload_n 9 0 dX2_fact_9 rfl ?_
    refine gx_aload_n 10 0 dX2_fact_10 rfl ?_
    refine gx_get (t := 3) (k := 2) (v := J (z1.2 7 2)) 11 cw3 (by decide) (tgs (show stc 7 = (3, 0) by decide) (by decide)) q354 same_f rfl dX2_fact_11 ?_
    obtain ⟨z41, ez41, h⟩ := opt_e h
    by_cases c42 : z41.1 = 0
    rotate_left
    · replace h := if_f h c42
      exact gx_callTX (As := [J (z1.2 7 2)]) (rest := []) 14 1 rfl cw3 (tgs (show stc 7 = (3, 0) by decide) (by decide)) c42 (mx2_opens ez41 l) (lw_V q1051 q1053 qs24 q152 q1054) (by decide +kernel) (by omega) rfl rfl (Nat.le_of_ble_eq_true rfl) dX2_fact_14 h
    replace h := if_t h c42
    refine gx_callT (As := [J (z1.2 7 2)]) (rest := []) (st' := []) 14 1 cw3 (tgs (show stc 7 = (3, 0) by decide) (by decide)) c42 (mx2_opens ez41 l) (lw_V q1051 q1053 qs24 q152 q1054) (by decide +kernel) (by omega) rfl rfl (Nat.le_of_ble_eq_true rfl) dX2_fact_14 rfl ?_
    refine gx_aload_n 17 0 dX2_fact_17 rfl ?_
    refine gx_dup 18 dX2_fact_18 rfl ?_
    refine gx_get (t := 3) (k := 2) (v := J (z41.2.2 7 2)) 19 cw3 (by decide) (tgs (show stc 7 = (3, 0) by decide) (by decide)) q354 same_f rfl dX2_fact_19 ?_
    refine gx_iconst 22 dX2_fact_22 ?_
    refine gx_iadd 23 dX2_fact_23 ?_
    obtain ⟨s43, es43, h⟩ := bnd_e h
    refine gx_put (t := 3) (k := 2) (x := ((z41.2.2 7 2) + 1)) (ty := .int) 24 cw3 (by decide) (tgs (show stc 7 = (3, 0) by decide) (by decide)) (st0 (show stc 7 = (3, 0) by decide) (by decide)) (stm (show stc 7 = (3, 0) by decide) (by decide)) q354 same_f rfl (by decide +kernel) rfl rfl (congrArg J (ux_s _ _ _ _)) es43 dX2_fact_24 ?_
    refine gx_aload_n 27 0 dX2_fact_27 rfl ?_
    obtain ⟨z44, ez44, h⟩ := opt_e h
    by_cases c45 : z44.1 = 0
    rotate_left
    · replace h := if_f h c45
      exact gx_callTX (As := []) (rest := []) 28 0 rfl cw3 (tgs (show stc 7 = (3, 0) by decide) (by decide)) c45 (mx2_test hrc ez44) (lw_V q1020 q1022 qs21 q152 q1023) (by decide +kernel) (by omega) rfl rfl (Nat.le_of_ble_eq_true rfl) dX2_fact_28 h
    replace h := if_t h c45
    refine gx_callT (As := []) (rest := []) (st' := [.ref (ad x0 z44.2.1)]) 28 0 cw3 (tgs (show stc 7 = (3, 0) by decide) (by decide)) c45 (mx2_test hrc ez44) (lw_V q1020 q1022 qs21 q152 q1023) (by decide +kernel) (by omega) rfl rfl (Nat.le_of_ble_eq_true rfl) dX2_fact_28 rfl ?_
    obtain ⟨x1_46, ex1_46, h⟩ := bnd_e h
    refine gx_astore_nv 31 [(1, .ref (ad x0 x1_46)), (0, .ref (ad x0 7))] dX2_fact_31 (by decide) ex1_46 rfl ?_
    refine gx_aload_n 32 1 dX2_fact_32 rfl ?_
    refine gx_bipush 33 dX2_fact_33 (by decide) ?_
    obtain ⟨z47, ez47, h⟩ := opt_e h
    by_cases c48 : z47.1 = 0
    rotate_left
    · replace h := if_f h c48
      exact gx_callTX (As := [J 93]) (rest := []) 35 1 rfl cw3 (tgs (show stc 7 = (3, 0) by decide) (by decide)) c48 (mx2_must ez47 l) (lw_V q750 q752 qs11 q152 q753) (by decide +kernel) (by omega) rfl rfl (Nat.le_of_ble_eq_true rfl) dX2_fact_35 h
    replace h := if_t h c48
    refine gx_callT (As := [J 93]) (rest := []) (st' := []) 35 1 cw3 (tgs (show stc 7 = (3, 0) by decide) (by decide)) c48 (mx2_must ez47 l) (lw_V q750 q752 qs11 q152 q753) (by decide +kernel) (by omega) rfl rfl (Nat.le_of_ble_eq_true rfl) dX2_fact_35 rfl ?_
    refine gx_aload_n 38 1 dX2_fact_38 rfl ?_
    refine gx_dup 39 dX2_fact_39 rfl ?_
    refine gx_get (t := 3) (k := 4) (v := J (z47.2.2 7 4)) 40 cw3 (by decide) (tgs (show stc 7 = (3, 0) by decide) (by decide)) q356 same_f rfl dX2_fact_40 ?_
    refine gx_iconst 43 dX2_fact_43 ?_
    refine gx_isub 44 dX2_fact_44 ?_
    obtain ⟨s49, es49, h⟩ := bnd_e h
    refine gx_put (t := 3) (k := 4) (x := ((z47.2.2 7 4) - 1)) (ty := .int) 45 cw3 (by decide) (tgs (show stc 7 = (3, 0) by decide) (by decide)) (st0 (show stc 7 = (3, 0) by decide) (by decide)) (stm (show stc 7 = (3, 0) by decide) (by decide)) q356 same_f rfl (by decide +kernel) rfl rfl (congrArg J (ux_s _ _ _ _)) es49 dX2_fact_45 ?_
    refine gx_aload_n 48 0 dX2_fact_48 rfl ?_
    exact gx_aret 49 (Or.inl ⟨_, rfl⟩) dX2_fact_49 h
theorem mx2_fact_n {x0 : Nat} {D : XD} {l : Launch} : ∀ (n : Nat) (t_ : XS) (z_ : RX), x2_fact n t_ = some z_ → XMet l yX2_fact cX2_fact 3 (some (.object "VerbAtDusk$Test")) (119 * n) true x0 D [.ref (ad x0 7)] t_ 3 z_ := by
  intro n
  induction n with
  | zero => intro t_ z_ h; cases h
  | succ n ih =>
    intro t_ z_ h
    rw [x2_fact] at h
    have := mx2_fact_B (d := 119 * n) ih h
    rw [Nat.mul_succ]
    exact this
theorem mx2_fact {x0 : Nat} {D : XD} {t_ : XS} {z_ : RX} (h : x2_fact 9 t_ = some z_) (l : Launch) : XMet l yX2_fact cX2_fact 3 (some (.object "VerbAtDusk$Test")) 1071 true x0 D [.ref (ad x0 7)] t_ 3 z_ := mx2_fact_n 9 _ _ h
/-! VerbAtDusk$Reader.once -/
noncomputable def x2_once (a1 : Int) (a2 : Int) (s0 : XS) : Option RX :=
  bnd (fun (x2_3 : Int) (w4 : Int) (s5 : XS) =>
      Option.bind (x2_most w4 x2_3 s5) fun z6 =>
      if z6.1 = 0 then
      bnd (ux z6.2.2 7 5 31) fun s8 =>
      Option.bind (x2_sum (x2_atom 9) s8) fun z9 =>
      if z9.1 = 0 then
      some (0, z9.2.1, z9.2.2)
      else some (1, 0, z9.2.2)
      else some (1, 0, z6.2.2)) fun j11 =>
  if a1 = -1 then
    j11 a2 0 s0
  else
    j11 a2 1 s0
theorem mx2_once {x0 : Nat} {D : XD} {a1 : Int} {a2 : Int} {s0 : XS} {res : RX} (h : x2_once a1 a2 s0 = some res) (l : Launch) : XMet l yX2_once cX2_once 3 (some (.object "VerbAtDusk$Value")) 119 true x0 D [.ref (ad x0 7), rf x0 a1, J a2] s0 3 res := by
  refine XMet.ofn [(0, .ref (ad x0 7)), (1, rf x0 a1), (2, J a2)] "VerbAtDusk$Reader" "once" rfl rfl (by decide) (by rcases rf_cases x0 a1 with e0 | ⟨w0, e0⟩ <;> rw [e0] <;> exact Nat.le_of_ble_eq_true rfl) (by rcases rf_cases x0 a1 with e0 | ⟨w0, e0⟩ <;> rw [e0] <;> rfl) ?_
  unfold x2_once at h
  generalize nC s0 = cN
  generalize nS s0 = sN
  refine gx_aload_n 0 0 dX2_once_0 rfl ?_
  obtain ⟨j11, ej11, h⟩ := bnd_e h
  have hj11 : ∀ (x2_3 : Int) (w4 : Int) (s5 : XS), j11 x2_3 w4 s5 = some res → GX l cX2_once "VerbAtDusk$Reader" 3 (some (.object "VerbAtDusk$Value")) "once" [] x0 D true 3 119 cN sN res s5 10 [(0, .ref (ad x0 7)), (2, J x2_3)] [J w4, .ref (ad x0 7)] := by
    clear h
    intro x2_3 w4 s5 h
    subst ej11
    refine gx_iload_n 10 1 dX2_once_10 rfl ?_
    obtain ⟨z6, ez6, h⟩ := opt_e h
    by_cases c7 : z6.1 = 0
    rotate_left
    · replace h := if_f h c7
      exact gx_callTX (As := [J w4, J x2_3]) (rest := []) 11 2 rfl cw3 (tgs (show stc 7 = (3, 0) by decide) (by decide)) c7 (mx2_most ez6 l) (lw_V q754 q756 qs12 q152 q757) (by decide +kernel) (by decide) rfl rfl (Nat.le_of_ble_eq_true rfl) dX2_once_11 h
    replace h := if_t h c7
    refine gx_callT (As := [J w4, J x2_3]) (rest := []) (st' := []) 11 2 cw3 (tgs (show stc 7 = (3, 0) by decide) (by decide)) c7 (mx2_most ez6 l) (lw_V q754 q756 qs12 q152 q757) (by decide +kernel) (by decide) rfl rfl (Nat.le_of_ble_eq_true rfl) dX2_once_11 rfl ?_
    refine gx_aload_n 14 0 dX2_once_14 rfl ?_
    refine gx_bipush 15 dX2_once_15 (by decide) ?_
    obtain ⟨s8, es8, h⟩ := bnd_e h
    refine gx_put (t := 3) (k := 5) (x := 31) (ty := .int) 17 cw3 (by decide) (tgs (show stc 7 = (3, 0) by decide) (by decide)) (st0 (show stc 7 = (3, 0) by decide) (by decide)) (stm (show stc 7 = (3, 0) by decide) (by decide)) q357 same_f rfl (by decide +kernel) rfl rfl (congrArg J (ux_s _ _ _ _)) es8 dX2_once_17 ?_
    refine gx_aload_n 20 0 dX2_once_20 rfl ?_
    obtain ⟨z9, ez9, h⟩ := opt_e h
    by_cases c10 : z9.1 = 0
    rotate_left
    · replace h := if_f h c10
      exact gx_callTX (As := []) (rest := []) 21 0 rfl cw3 (tgs (show stc 7 = (3, 0) by decide) (by decide)) c10 (mx2_sum (mx2_atom_n (l := l) 9) ez9) (lw_V q1078 q1080 qs26 q152 q1081) (by decide +kernel) (by decide) rfl rfl (Nat.le_of_ble_eq_true rfl) dX2_once_21 h
    replace h := if_t h c10
    refine gx_callT (As := []) (rest := []) (st' := [.ref (ad x0 z9.2.1)]) 21 0 cw3 (tgs (show stc 7 = (3, 0) by decide) (by decide)) c10 (mx2_sum (mx2_atom_n (l := l) 9) ez9) (lw_V q1078 q1080 qs26 q152 q1081) (by decide +kernel) (by decide) rfl rfl (Nat.le_of_ble_eq_true rfl) dX2_once_21 rfl ?_
    exact gx_aret 24 (Or.inl ⟨_, rfl⟩) dX2_once_24 h
  refine gx_aload_nifnull 1 9 1 dX2_once_1 dX2_once_2 rfl (by decide) (fun c12 => ?_) (fun c12 => ?_)
  · replace h := if_t h c12
    refine gx_iconst 9 dX2_once_9 ?_
    refine gx_sub [0, 2] rfl ?_
    exact hj11 _ _ _ h
  · replace h := if_f h c12
    refine gx_iconst 5 dX2_once_5 ?_
    refine gx_goto 6 10 dX2_once_6 (by decide) ?_
    refine gx_sub [0, 2] rfl ?_
    exact hj11 _ _ _ h
/-! VerbAtDusk$Reader.more -/
noncomputable def x2_more (a1 : Int) (a2 : Int) (s0 : XS) : Option RX :=
  bnd (-1) fun x4_3 =>
  gd (tg true s0 a1 = 22) <|
  Option.bind (j6_hashCode true a1 s0) fun z4 =>
  bnd (fun (x2_6 : Int) (x4_7 : Int) (s8 : XS) =>
      if i32 x4_7 = 0 then
        gd (¬ (s8 7 6) = -1) <|
        gd (tg true s8 (s8 7 6) = 2) <|
        bnd (fun (x2_12 : Int) (w13 : Int) (s14 : XS) =>
            Option.bind (x2_most w13 x2_12 s14) fun z15 =>
            if z15.1 = 0 then
            bnd (ux z15.2.2 7 5 31) fun s17 =>
            gd (¬ (s17 7 6) = -1) <|
            Option.bind (x2_test (x2_fact 9) s17) fun z19 =>
            if z19.1 = 0 then
            gd (tg true z19.2.2 (s17 7 6) = 2) <|
            gd (0 ≤ (s17 7 6) ∧ ¬ (1438 ≤ (s17 7 6) ∧ (s17 7 6) < 1514)) <|
            gd (¬ z19.2.1 = -1) <|
            bnd (ux z19.2.2 (s17 7 6) 6 z19.2.1) fun s24 =>
            some (0, 0, s24)
            else some (1, 0, z19.2.2)
            else some (1, 0, z15.2.2)) fun j25 =>
        if (s8 (s8 7 6) 6) = -1 then
          j25 x2_6 0 s8
        else
          j25 x2_6 1 s8
      else
      if i32 x4_7 = 1 then
        gd (¬ (s8 7 6) = -1) <|
        gd (¬ (s8 7 6) = -1) <|
        gd (tg true s8 (s8 7 6) = 2) <|
        Option.bind (x2_once (s8 (s8 7 6) 7) x2_6 s8) fun z31 =>
        if z31.1 = 0 then
        gd (tg true z31.2.2 (s8 7 6) = 2) <|
        gd (0 ≤ (s8 7 6) ∧ ¬ (1438 ≤ (s8 7 6) ∧ (s8 7 6) < 1514)) <|
        gd (¬ z31.2.1 = -1) <|
        bnd (ux z31.2.2 (s8 7 6) 7 z31.2.1) fun s36 =>
        some (0, 0, s36)
        else some (1, 0, z31.2.2)
      else
      if i32 x4_7 = 2 then
        gd (¬ (s8 7 6) = -1) <|
        gd (¬ (s8 7 6) = -1) <|
        gd (tg true s8 (s8 7 6) = 2) <|
        Option.bind (x2_once (s8 (s8 7 6) 8) x2_6 s8) fun z41 =>
        if z41.1 = 0 then
        gd (tg true z41.2.2 (s8 7 6) = 2) <|
        gd (0 ≤ (s8 7 6) ∧ ¬ (1438 ≤ (s8 7 6) ∧ (s8 7 6) < 1514)) <|
        gd (¬ z41.2.1 = -1) <|
        bnd (ux z41.2.2 (s8 7 6) 8 z41.2.1) fun s46 =>
        some (0, 0, s46)
        else some (1, 0, z41.2.2)
      else
      if i32 x4_7 = 3 then
        gd (¬ (s8 7 6) = -1) <|
        Option.bind (x2_number 0 100 s8) fun z49 =>
        if z49.1 = 0 then
        gd (tg true z49.2.2 (s8 7 6) = 2) <|
        gd (0 ≤ (s8 7 6) ∧ ¬ (1438 ≤ (s8 7 6) ∧ (s8 7 6) < 1514)) <|
        bnd (ux z49.2.2 (s8 7 6) 3 z49.2.1) fun s53 =>
        some (0, 0, s53)
        else some (1, 0, z49.2.2)
      else
        Option.bind (x2_wrong 1 x2_6 s8) fun z54 =>
        gd (z54.1 = 8) <|
        some (1, 0, z54.2)) fun j56 =>
  if i32 z4.1 = 3645646 then
    gd (tg true z4.2 a1 = 22) <|
    Option.bind (j6_equals true a1 (z4.2 (-1) 129) z4.2) fun z58 =>
    if i32 z58.1 = 0 then
      j56 a2 x4_3 z58.2
    else
      bnd 1 fun x4_61 =>
      j56 a2 x4_61 z58.2
  else
  if i32 z4.1 = 95594804 then
    gd (tg true z4.2 a1 = 22) <|
    Option.bind (j6_equals true a1 (z4.2 (-1) 131) z4.2) fun z63 =>
    if i32 z63.1 = 0 then
      j56 a2 x4_3 z63.2
    else
      bnd 3 fun x4_66 =>
      j56 a2 x4_66 z63.2
  else
  if i32 z4.1 = 110124236 then
    gd (tg true z4.2 a1 = 22) <|
    Option.bind (j6_equals true a1 (z4.2 (-1) 128) z4.2) fun z68 =>
    if i32 z68.1 = 0 then
      j56 a2 x4_3 z68.2
    else
      bnd 0 fun x4_71 =>
      j56 a2 x4_71 z68.2
  else
  if i32 z4.1 = 110727062 then
    gd (tg true z4.2 a1 = 22) <|
    Option.bind (j6_equals true a1 (z4.2 (-1) 130) z4.2) fun z73 =>
    if i32 z73.1 = 0 then
      j56 a2 x4_3 z73.2
    else
      bnd 2 fun x4_76 =>
      j56 a2 x4_76 z73.2
  else
    j56 a2 x4_3 z4.2
theorem mx2_more {x0 : Nat} {D : XD} {a1 : Int} {a2 : Int} {s0 : XS} {res : RX} (h : x2_more a1 a2 s0 = some res) (l : Launch) : XMet l yX2_more cX2_more 5 none 1081 true x0 D [.ref (ad x0 7), .ref (ad x0 a1), J a2] s0 0 res := by
  refine XMet.ofn [(0, .ref (ad x0 7)), (1, .ref (ad x0 a1)), (2, J a2)] "VerbAtDusk$Reader" "more" rfl rfl (by decide) (Nat.le_of_ble_eq_true rfl) rfl ?_
  unfold x2_more at h
  generalize nC s0 = cN
  generalize nS s0 = sN
  refine gx_aload_n 0 1 dX2_more_0 rfl ?_
  refine gx_astore_nv 1 [(3, .ref (ad x0 a1)), (0, .ref (ad x0 7)), (1, .ref (ad x0 a1)), (2, J a2)] dX2_more_1 (by decide) rfl rfl ?_
  refine gx_iconst 2 dX2_more_2 ?_
  obtain ⟨x4_3, ex4_3, h⟩ := bnd_e h
  refine gx_istore 3 [(4, J x4_3), (3, .ref (ad x0 a1)), (0, .ref (ad x0 7)), (1, .ref (ad x0 a1)), (2, J a2)] dX2_more_3 (by decide) ex4_3 rfl ?_
  refine gx_aload_n 5 1 dX2_more_5 rfl ?_
  obtain ⟨g5, h⟩ := gd_e h
  obtain ⟨z4, ez4, h⟩ := opt_e h
  refine gx_callV (As := []) (rest := []) (st' := [J z4.1]) 6 0 cw22 g5 (mj6_hashCode ez4 l) (lw_V q762 q763 q764 q162 q765) (by decide +kernel) (by decide) rfl rfl (Nat.le_of_ble_eq_true rfl) dX2_more_6 rfl ?_
  obtain ⟨j56, ej56, h⟩ := bnd_e h
  have hj56 : ∀ (x2_6 : Int) (x4_7 : Int) (s8 : XS), j56 x2_6 x4_7 s8 = some res → GX l cX2_more "VerbAtDusk$Reader" 5 none "more" [] x0 D true 0 1081 cN sN res s8 109 [(0, .ref (ad x0 7)), (2, J x2_6), (4, J x4_7)] [] := by
    clear h
    intro x2_6 x4_7 s8 h
    subst ej56
    refine gx_iload 109 2 dX2_more_109 rfl ?_
    by_cases c9 : i32 x4_7 = 0
    · replace h := if_t h c9
      refine gx_tableIn 111 140 0 dX2_more_111 c9 (by decide) (by decide) rfl (by decide) ?_
      refine gx_aload_n 140 0 dX2_more_140 rfl ?_
      refine gx_aload_n 141 0 dX2_more_141 rfl ?_
      obtain ⟨g10, h⟩ := gd_e h
      refine gx_get (t := 3) (k := 6) (v := .ref (ad x0 (s8 7 6))) 142 cw3 (by decide) (tgs (show stc 7 = (3, 0) by decide) (by decide)) q358 same_f (rf_ne g10) dX2_more_142 ?_
      obtain ⟨g11, h⟩ := gd_e h
      obtain ⟨j25, ej25, h⟩ := bnd_e h
      have hj25 : ∀ (x2_12 : Int) (w13 : Int) (s14 : XS), j25 x2_12 w13 s14 = some res → GX l cX2_more "VerbAtDusk$Reader" 5 none "more" [] x0 D true 0 1081 cN sN res s14 156 [(0, .ref (ad x0 7)), (2, J x2_12)] [J w13, .ref (ad x0 7)] := by
        clear h
        intro x2_12 w13 s14 h
        subst ej25
        refine gx_iload_n 156 1 dX2_more_156 rfl ?_
        obtain ⟨z15, ez15, h⟩ := opt_e h
        by_cases c16 : z15.1 = 0
        rotate_left
        · replace h := if_f h c16
          exact gx_callTX (As := [J w13, J x2_12]) (rest := []) 157 2 rfl cw3 (tgs (show stc 7 = (3, 0) by decide) (by decide)) c16 (mx2_most ez15 l) (lw_V q754 q756 qs12 q152 q757) (by decide +kernel) (by decide) rfl rfl (Nat.le_of_ble_eq_true rfl) dX2_more_157 h
        replace h := if_t h c16
        refine gx_callT (As := [J w13, J x2_12]) (rest := []) (st' := []) 157 2 cw3 (tgs (show stc 7 = (3, 0) by decide) (by decide)) c16 (mx2_most ez15 l) (lw_V q754 q756 qs12 q152 q757) (by decide +kernel) (by decide) rfl rfl (Nat.le_of_ble_eq_true rfl) dX2_more_157 rfl ?_
        refine gx_aload_n 160 0 dX2_more_160 rfl ?_
        refine gx_bipush 161 dX2_more_161 (by decide) ?_
        obtain ⟨s17, es17, h⟩ := bnd_e h
        refine gx_put (t := 3) (k := 5) (x := 31) (ty := .int) 163 cw3 (by decide) (tgs (show stc 7 = (3, 0) by decide) (by decide)) (st0 (show stc 7 = (3, 0) by decide) (by decide)) (stm (show stc 7 = (3, 0) by decide) (by decide)) q357 same_f rfl (by decide +kernel) rfl rfl (congrArg J (ux_s _ _ _ _)) es17 dX2_more_163 ?_
        refine gx_aload_n 166 0 dX2_more_166 rfl ?_
        obtain ⟨g18, h⟩ := gd_e h
        refine gx_get (t := 3) (k := 6) (v := .ref (ad x0 (s17 7 6))) 167 cw3 (by decide) (tgs (show stc 7 = (3, 0) by decide) (by decide)) q358 same_f (rf_ne g18) dX2_more_167 ?_
        refine gx_aload_n 170 0 dX2_more_170 rfl ?_
        obtain ⟨z19, ez19, h⟩ := opt_e h
        by_cases c20 : z19.1 = 0
        rotate_left
        · replace h := if_f h c20
          exact gx_callTX (As := []) (rest := [.ref (ad x0 (s17 7 6))]) 171 0 rfl cw3 (tgs (show stc 7 = (3, 0) by decide) (by decide)) c20 (mx2_test (mx2_fact_n (l := l) 9) ez19) (lw_V q1020 q1022 qs21 q152 q1023) (by decide +kernel) (by decide) rfl rfl (Nat.le_of_ble_eq_true rfl) dX2_more_171 h
        replace h := if_t h c20
        refine gx_callT (As := []) (rest := [.ref (ad x0 (s17 7 6))]) (st' := [.ref (ad x0 z19.2.1), .ref (ad x0 (s17 7 6))]) 171 0 cw3 (tgs (show stc 7 = (3, 0) by decide) (by decide)) c20 (mx2_test (mx2_fact_n (l := l) 9) ez19) (lw_V q1020 q1022 qs21 q152 q1023) (by decide +kernel) (by decide) rfl rfl (Nat.le_of_ble_eq_true rfl) dX2_more_171 rfl ?_
        obtain ⟨g21, h⟩ := gd_e h
        obtain ⟨g22, h⟩ := gd_e h
        obtain ⟨g23, h⟩ := gd_e h
        obtain ⟨s24, es24, h⟩ := bnd_e h
        refine gx_putN (t := 2) (k := 6) (x := z19.2.1) (ty := (.object "VerbAtDusk$Test")) 174 cw2 (by decide) g21 g22.1 g22.2 q249 same_f rfl (by decide +kernel) (refOk rfl _).1 (refOk rfl _).2 ((congrArg (rf x0) (ux_s _ _ _ _)).trans (rf_ne g23)) es24 dX2_more_174 ?_
        refine gx_goto 177 248 dX2_more_177 (by decide) ?_
        exact gx_vret 248 dX2_more_248 h
      refine gx_gifnullN (t := 2) (k := 6) 145 155 cw2 (by decide) g11 q249 same_f rfl dX2_more_145 dX2_more_148 (by decide) (fun c26 => ?_) (fun c26 => ?_)
      · replace h := if_t h c26
        refine gx_iconst 155 dX2_more_155 ?_
        refine gx_sub [0, 1] rfl ?_
        exact hj25 _ _ _ h
      · replace h := if_f h c26
        refine gx_iconst 151 dX2_more_151 ?_
        refine gx_goto 152 156 dX2_more_152 (by decide) ?_
        refine gx_sub [0, 1] rfl ?_
        exact hj25 _ _ _ h
    replace h := if_f h c9
    by_cases c27 : i32 x4_7 = 1
    · replace h := if_t h c27
      refine gx_tableIn 111 180 1 dX2_more_111 c27 (by decide) (by decide) rfl (by decide) ?_
      refine gx_aload_n 180 0 dX2_more_180 rfl ?_
      obtain ⟨g28, h⟩ := gd_e h
      refine gx_get (t := 3) (k := 6) (v := .ref (ad x0 (s8 7 6))) 181 cw3 (by decide) (tgs (show stc 7 = (3, 0) by decide) (by decide)) q358 same_f (rf_ne g28) dX2_more_181 ?_
      refine gx_aload_n 184 0 dX2_more_184 rfl ?_
      refine gx_aload_n 185 0 dX2_more_185 rfl ?_
      obtain ⟨g29, h⟩ := gd_e h
      refine gx_get (t := 3) (k := 6) (v := .ref (ad x0 (s8 7 6))) 186 cw3 (by decide) (tgs (show stc 7 = (3, 0) by decide) (by decide)) q358 same_f (rf_ne g29) dX2_more_186 ?_
      obtain ⟨g30, h⟩ := gd_e h
      refine gx_getN (t := 2) (k := 7) (v := rf x0 (s8 (s8 7 6) 7)) 189 cw2 (by decide) g30 q251 same_f rfl dX2_more_189 ?_
      refine gx_iload_n 192 1 dX2_more_192 rfl ?_
      obtain ⟨z31, ez31, h⟩ := opt_e h
      by_cases c32 : z31.1 = 0
      rotate_left
      · replace h := if_f h c32
        exact gx_callTX (As := [rf x0 (s8 (s8 7 6) 7), J x2_6]) (rest := [.ref (ad x0 (s8 7 6))]) 193 2 rfl cw3 (tgs (show stc 7 = (3, 0) by decide) (by decide)) c32 (mx2_once ez31 l) (lw_V q1280 q1282 qs32 q152 q1283) (by decide +kernel) (by decide) rfl rfl (Nat.le_of_ble_eq_true rfl) dX2_more_193 h
      replace h := if_t h c32
      refine gx_callT (As := [rf x0 (s8 (s8 7 6) 7), J x2_6]) (rest := [.ref (ad x0 (s8 7 6))]) (st' := [.ref (ad x0 z31.2.1), .ref (ad x0 (s8 7 6))]) 193 2 cw3 (tgs (show stc 7 = (3, 0) by decide) (by decide)) c32 (mx2_once ez31 l) (lw_V q1280 q1282 qs32 q152 q1283) (by decide +kernel) (by decide) rfl rfl (Nat.le_of_ble_eq_true rfl) dX2_more_193 rfl ?_
      obtain ⟨g33, h⟩ := gd_e h
      obtain ⟨g34, h⟩ := gd_e h
      obtain ⟨g35, h⟩ := gd_e h
      obtain ⟨s36, es36, h⟩ := bnd_e h
      refine gx_putN (t := 2) (k := 7) (x := z31.2.1) (ty := (.object "VerbAtDusk$Value")) 196 cw2 (by decide) g33 g34.1 g34.2 q251 same_f rfl (by decide +kernel) (refOk rfl _).1 (refOk rfl _).2 ((congrArg (rf x0) (ux_s _ _ _ _)).trans (rf_ne g35)) es36 dX2_more_196 ?_
      refine gx_goto 199 248 dX2_more_199 (by decide) ?_
      exact gx_vret 248 dX2_more_248 h
    replace h := if_f h c27
    by_cases c37 : i32 x4_7 = 2
    · replace h := if_t h c37
      refine gx_tableIn 111 202 2 dX2_more_111 c37 (by decide) (by decide) rfl (by decide) ?_
      refine gx_aload_n 202 0 dX2_more_202 rfl ?_
      obtain ⟨g38, h⟩ := gd_e h
      refine gx_get (t := 3) (k := 6) (v := .ref (ad x0 (s8 7 6))) 203 cw3 (by decide) (tgs (show stc 7 = (3, 0) by decide) (by decide)) q358 same_f (rf_ne g38) dX2_more_203 ?_
      refine gx_aload_n 206 0 dX2_more_206 rfl ?_
      refine gx_aload_n 207 0 dX2_more_207 rfl ?_
      obtain ⟨g39, h⟩ := gd_e h
      refine gx_get (t := 3) (k := 6) (v := .ref (ad x0 (s8 7 6))) 208 cw3 (by decide) (tgs (show stc 7 = (3, 0) by decide) (by decide)) q358 same_f (rf_ne g39) dX2_more_208 ?_
      obtain ⟨g40, h⟩ := gd_e h
      refine gx_getN (t := 2) (k := 8) (v := rf x0 (s8 (s8 7 6) 8)) 211 cw2 (by decide) g40 q253 same_f rfl dX2_more_211 ?_
      refine gx_iload_n 214 1 dX2_more_214 rfl ?_
      obtain ⟨z41, ez41, h⟩ := opt_e h
      by_cases c42 : z41.1 = 0
      rotate_left
      · replace h := if_f h c42
        exact gx_callTX (As := [rf x0 (s8 (s8 7 6) 8), J x2_6]) (rest := [.ref (ad x0 (s8 7 6))]) 215 2 rfl cw3 (tgs (show stc 7 = (3, 0) by decide) (by decide)) c42 (mx2_once ez41 l) (lw_V q1280 q1282 qs32 q152 q1283) (by decide +kernel) (by decide) rfl rfl (Nat.le_of_ble_eq_true rfl) dX2_more_215 h
      replace h := if_t h c42
      refine gx_callT (As := [rf x0 (s8 (s8 7 6) 8), J x2_6]) (rest := [.ref (ad x0 (s8 7 6))]) (st' := [.ref (ad x0 z41.2.1), .ref (ad x0 (s8 7 6))]) 215 2 cw3 (tgs (show stc 7 = (3, 0) by decide) (by decide)) c42 (mx2_once ez41 l) (lw_V q1280 q1282 qs32 q152 q1283) (by decide +kernel) (by decide) rfl rfl (Nat.le_of_ble_eq_true rfl) dX2_more_215 rfl ?_
      obtain ⟨g43, h⟩ := gd_e h
      obtain ⟨g44, h⟩ := gd_e h
      obtain ⟨g45, h⟩ := gd_e h
      obtain ⟨s46, es46, h⟩ := bnd_e h
      refine gx_putN (t := 2) (k := 8) (x := z41.2.1) (ty := (.object "VerbAtDusk$Value")) 218 cw2 (by decide) g43 g44.1 g44.2 q253 same_f rfl (by decide +kernel) (refOk rfl _).1 (refOk rfl _).2 ((congrArg (rf x0) (ux_s _ _ _ _)).trans (rf_ne g45)) es46 dX2_more_218 ?_
      refine gx_goto 221 248 dX2_more_221 (by decide) ?_
      exact gx_vret 248 dX2_more_248 h
    replace h := if_f h c37
    by_cases c47 : i32 x4_7 = 3
    · replace h := if_t h c47
      refine gx_tableIn 111 224 3 dX2_more_111 c47 (by decide) (by decide) rfl (by decide) ?_
      refine gx_aload_n 224 0 dX2_more_224 rfl ?_
      obtain ⟨g48, h⟩ := gd_e h
      refine gx_get (t := 3) (k := 6) (v := .ref (ad x0 (s8 7 6))) 225 cw3 (by decide) (tgs (show stc 7 = (3, 0) by decide) (by decide)) q358 same_f (rf_ne g48) dX2_more_225 ?_
      refine gx_aload_n 228 0 dX2_more_228 rfl ?_
      refine gx_iconst 229 dX2_more_229 ?_
      refine gx_bipush 230 dX2_more_230 (by decide) ?_
      obtain ⟨z49, ez49, h⟩ := opt_e h
      by_cases c50 : z49.1 = 0
      rotate_left
      · replace h := if_f h c50
        exact gx_callTX (As := [J 0, J 100]) (rest := [.ref (ad x0 (s8 7 6))]) 232 2 rfl cw3 (tgs (show stc 7 = (3, 0) by decide) (by decide)) c50 (mx2_number ez49 l) (lw_V q743 q745 qs10 q152 q746) (by decide +kernel) (by decide) rfl rfl (Nat.le_of_ble_eq_true rfl) dX2_more_232 h
      replace h := if_t h c50
      refine gx_callT (As := [J 0, J 100]) (rest := [.ref (ad x0 (s8 7 6))]) (st' := [J z49.2.1, .ref (ad x0 (s8 7 6))]) 232 2 cw3 (tgs (show stc 7 = (3, 0) by decide) (by decide)) c50 (mx2_number ez49 l) (lw_V q743 q745 qs10 q152 q746) (by decide +kernel) (by decide) rfl rfl (Nat.le_of_ble_eq_true rfl) dX2_more_232 rfl ?_
      obtain ⟨g51, h⟩ := gd_e h
      obtain ⟨g52, h⟩ := gd_e h
      obtain ⟨s53, es53, h⟩ := bnd_e h
      refine gx_putN (t := 2) (k := 3) (x := z49.2.1) (ty := .int) 235 cw2 (by decide) g51 g52.1 g52.2 q238 same_f rfl (by decide +kernel) rfl rfl (congrArg J (ux_s _ _ _ _)) es53 dX2_more_235 ?_
      refine gx_goto 238 248 dX2_more_238 (by decide) ?_
      exact gx_vret 248 dX2_more_248 h
    replace h := if_f h c47
    refine gx_tableOut 111 241 dX2_more_111 (by omega) (by decide) ?_
    refine gx_aload_n 241 0 dX2_more_241 rfl ?_
    refine gx_iconst 242 dX2_more_242 ?_
    refine gx_iload_n 243 1 dX2_more_243 rfl ?_
    obtain ⟨z54, ez54, h⟩ := opt_e h
    refine gx_callV (As := [J 1, J x2_6]) (rest := []) (st' := [.ref (ad x0 z54.1)]) 244 2 cw3 (tgs (show stc 7 = (3, 0) by decide) (by decide)) (mx2_wrong ez54 l) (lw_V q647 q649 qs8 q152 q650) (by decide +kernel) (by decide) rfl rfl (Nat.le_of_ble_eq_true rfl) dX2_more_244 rfl ?_
    obtain ⟨g55, h⟩ := gd_e h
    rw [g55]
    exact gx_athrowE 247 rfl rfl (tgs (show stc 8 = (4, 0) by decide) (by decide)) cw4 dX2_more_247 h
  by_cases c57 : i32 z4.1 = 3645646
  · replace h := if_t h c57
    refine gx_lookup (off := 58) 9 67 dX2_more_9 (by decide) (by rw [c57]; try rfl) (by decide) ?_
    refine gx_aload_n 67 1 dX2_more_67 rfl ?_
    refine gx_ldcS (j := 29) (tx := "well") 68 (by decide) rfl dX2_more_68 ?_
    obtain ⟨g59, h⟩ := gd_e h
    obtain ⟨z58, ez58, h⟩ := opt_e h
    refine gx_callV (As := [.ref (ad x0 (z4.2 (-1) 129))]) (rest := []) (st' := [J z58.1]) 70 1 cw22 g59 (mj6_equals ez58 l) (lw_V q736 q737 q738 q162 q739) (by decide +kernel) (by decide) rfl rfl (Nat.le_of_ble_eq_true rfl) dX2_more_70 rfl ?_
    refine gx_if_eq 73 109 dX2_more_73 (by decide) (fun c60 => ?_) (fun c60 => ?_)
    · replace h := if_t h c60
      refine gx_sub [2, 4, 0] rfl ?_
      exact hj56 _ _ _ h
    · replace h := if_f h c60
      refine gx_iconst 76 dX2_more_76 ?_
      obtain ⟨x4_61, ex4_61, h⟩ := bnd_e h
      refine gx_istore 77 [(4, J x4_61), (3, .ref (ad x0 a1)), (0, .ref (ad x0 7)), (1, .ref (ad x0 a1)), (2, J a2)] dX2_more_77 (by decide) ex4_61 rfl ?_
      refine gx_goto 79 109 dX2_more_79 (by decide) ?_
      refine gx_sub [2, 4, 0] rfl ?_
      exact hj56 _ _ _ h
  replace h := if_f h c57
  by_cases c62 : i32 z4.1 = 95594804
  · replace h := if_t h c62
    refine gx_lookup (off := 88) 9 97 dX2_more_9 (by decide) (by rw [c62]; try rfl) (by decide) ?_
    refine gx_aload_n 97 1 dX2_more_97 rfl ?_
    refine gx_ldcS (j := 31) (tx := "ditch") 98 (by decide) rfl dX2_more_98 ?_
    obtain ⟨g64, h⟩ := gd_e h
    obtain ⟨z63, ez63, h⟩ := opt_e h
    refine gx_callV (As := [.ref (ad x0 (z4.2 (-1) 131))]) (rest := []) (st' := [J z63.1]) 100 1 cw22 g64 (mj6_equals ez63 l) (lw_V q736 q737 q738 q162 q739) (by decide +kernel) (by decide) rfl rfl (Nat.le_of_ble_eq_true rfl) dX2_more_100 rfl ?_
    refine gx_if_eq 103 109 dX2_more_103 (by decide) (fun c65 => ?_) (fun c65 => ?_)
    · replace h := if_t h c65
      refine gx_sub [2, 4, 0] rfl ?_
      exact hj56 _ _ _ h
    · replace h := if_f h c65
      refine gx_iconst 106 dX2_more_106 ?_
      obtain ⟨x4_66, ex4_66, h⟩ := bnd_e h
      refine gx_istore 107 [(4, J x4_66), (3, .ref (ad x0 a1)), (0, .ref (ad x0 7)), (1, .ref (ad x0 a1)), (2, J a2)] dX2_more_107 (by decide) ex4_66 rfl ?_
      refine gx_sub [2, 4, 0] rfl ?_
      exact hj56 _ _ _ h
  replace h := if_f h c62
  by_cases c67 : i32 z4.1 = 110124236
  · replace h := if_t h c67
    refine gx_lookup (off := 43) 9 52 dX2_more_9 (by decide) (by rw [c67]; try rfl) (by decide) ?_
    refine gx_aload_n 52 1 dX2_more_52 rfl ?_
    refine gx_ldcS (j := 28) (tx := "takes") 53 (by decide) rfl dX2_more_53 ?_
    obtain ⟨g69, h⟩ := gd_e h
    obtain ⟨z68, ez68, h⟩ := opt_e h
    refine gx_callV (As := [.ref (ad x0 (z4.2 (-1) 128))]) (rest := []) (st' := [J z68.1]) 55 1 cw22 g69 (mj6_equals ez68 l) (lw_V q736 q737 q738 q162 q739) (by decide +kernel) (by decide) rfl rfl (Nat.le_of_ble_eq_true rfl) dX2_more_55 rfl ?_
    refine gx_if_eq 58 109 dX2_more_58 (by decide) (fun c70 => ?_) (fun c70 => ?_)
    · replace h := if_t h c70
      refine gx_sub [2, 4, 0] rfl ?_
      exact hj56 _ _ _ h
    · replace h := if_f h c70
      refine gx_iconst 61 dX2_more_61 ?_
      obtain ⟨x4_71, ex4_71, h⟩ := bnd_e h
      refine gx_istore 62 [(4, J x4_71), (3, .ref (ad x0 a1)), (0, .ref (ad x0 7)), (1, .ref (ad x0 a1)), (2, J a2)] dX2_more_62 (by decide) ex4_71 rfl ?_
      refine gx_goto 64 109 dX2_more_64 (by decide) ?_
      refine gx_sub [2, 4, 0] rfl ?_
      exact hj56 _ _ _ h
  replace h := if_f h c67
  by_cases c72 : i32 z4.1 = 110727062
  · replace h := if_t h c72
    refine gx_lookup (off := 73) 9 82 dX2_more_9 (by decide) (by rw [c72]; try rfl) (by decide) ?_
    refine gx_aload_n 82 1 dX2_more_82 rfl ?_
    refine gx_ldcS (j := 30) (tx := "turns") 83 (by decide) rfl dX2_more_83 ?_
    obtain ⟨g74, h⟩ := gd_e h
    obtain ⟨z73, ez73, h⟩ := opt_e h
    refine gx_callV (As := [.ref (ad x0 (z4.2 (-1) 130))]) (rest := []) (st' := [J z73.1]) 85 1 cw22 g74 (mj6_equals ez73 l) (lw_V q736 q737 q738 q162 q739) (by decide +kernel) (by decide) rfl rfl (Nat.le_of_ble_eq_true rfl) dX2_more_85 rfl ?_
    refine gx_if_eq 88 109 dX2_more_88 (by decide) (fun c75 => ?_) (fun c75 => ?_)
    · replace h := if_t h c75
      refine gx_sub [2, 4, 0] rfl ?_
      exact hj56 _ _ _ h
    · replace h := if_f h c75
      refine gx_iconst 91 dX2_more_91 ?_
      obtain ⟨x4_76, ex4_76, h⟩ := bnd_e h
      refine gx_istore 92 [(4, J x4_76), (3, .ref (ad x0 a1)), (0, .ref (ad x0 7)), (1, .ref (ad x0 a1)), (2, J a2)] dX2_more_92 (by decide) ex4_76 rfl ?_
      refine gx_goto 94 109 dX2_more_94 (by decide) ?_
      refine gx_sub [2, 4, 0] rfl ?_
      exact hj56 _ _ _ h
  replace h := if_f h c72
  refine gx_lookup (off := 100) 9 109 dX2_more_9 (by decide) (by simp [Op.lookupswitch.offset, c57, Ne.symm c57, c62, Ne.symm c62, c67, Ne.symm c67, c72, Ne.symm c72]) (by decide) ?_
  refine gx_sub [2, 4, 0] rfl ?_
  exact hj56 _ _ _ h
/-! VerbAtDusk$Reader.all -/
noncomputable def x2_all_L60 (k141 : XS → Option RX) : Nat → XS → Option RX
  | 0, _ => none
  | n + 1, s24 =>
    Option.bind (x2_here s24) fun z26 =>
    if i32 z26.1 = i32 (-1) then
      k141 z26.2
    else
      gd (¬ (z26.2 7 6) = -1) <|
      gd (tg true z26.2 (z26.2 7 6) = 2) <|
      bnd (fun (w30 : Int) (s31 : XS) =>
          Option.bind (x2_most w30 (s31 7 2) s31) fun z32 =>
          if z32.1 = 0 then
          gd (¬ (z32.2.2 7 6) = -1) <|
          gd (tg true z32.2.2 (z32.2.2 7 6) = 2) <|
          gd (tg true z32.2.2 (z32.2.2 7 6) = 2) <|
          gd (0 ≤ (z32.2.2 7 6) ∧ ¬ (1438 ≤ (z32.2.2 7 6) ∧ (z32.2.2 7 6) < 1514)) <|
          bnd (ux z32.2.2 (z32.2.2 7 6) 0 ((z32.2.2 (z32.2.2 7 6) 0) + 1)) fun s38 =>
          Option.bind (x2_word_2 s38) fun z39 =>
          if z39.1 = 0 then
          bnd z39.2.1 fun x2_41 =>
          Option.bind (x2_named x2_41 (z39.2.2 7 3) z39.2.2) fun z42 =>
          if z42.1 = 0 then
          bnd (fun (s44 : XS) =>
              Option.bind (x2_must 59 s44) fun z45 =>
              if z45.1 = 0 then
              x2_all_L60 k141 n z45.2.2
              else some (1, 0, z45.2.2)) fun j47 =>
          if i32 z42.2.1 = 0 then
            Option.bind (x2_more x2_41 (z42.2.2 7 3) z42.2.2) fun z49 =>
            if z49.1 = 0 then
            j47 z49.2.2
            else some (1, 0, z49.2.2)
          else
            j47 z42.2.2
          else some (1, 0, z42.2.2)
          else some (1, 0, z39.2.2)
          else some (1, 0, z32.2.2)) fun j51 =>
      if i32 (z26.2 (z26.2 7 6) 0) = i32 80 then
        j51 1 z26.2
      else
        j51 0 z26.2
noncomputable def x2_all (a1 : Int) (s0 : XS) : Option RX :=
  gd (0 ≤ s0 (-1) 0 ∧ 0 ≤ s0 (-1) 1) <|
  bnd (nwx s0 2 0 9 (dfl 2)) fun s3 =>
  Option.bind (x1_init true (s0 (-1) 0) s3) fun z4 =>
  gd (¬ (s0 (-1) 0) = -1) <|
  bnd (ux z4.2 7 6 (s0 (-1) 0)) fun s6 =>
  bnd (ux s6 7 1 a1) fun s7 =>
  bnd (ux s7 7 2 0) fun s8 =>
  bnd (ux s8 7 4 0) fun s9 =>
  Option.bind (x2_word (s9 (-1) 120) s9) fun z10 =>
  if z10.1 = 0 then
  gd (¬ (z10.2.2 7 6) = -1) <|
  Option.bind (x2_number 1 99 z10.2.2) fun z13 =>
  if z13.1 = 0 then
  gd (tg true z13.2.2 (z10.2.2 7 6) = 2) <|
  gd (0 ≤ (z10.2.2 7 6) ∧ ¬ (1438 ≤ (z10.2.2 7 6) ∧ (z10.2.2 7 6) < 1514)) <|
  bnd (ux z13.2.2 (z10.2.2 7 6) 1 z13.2.1) fun s17 =>
  Option.bind (x2_must 59 s17) fun z18 =>
  if z18.1 = 0 then
  gd (¬ (z18.2.2 7 6) = -1) <|
  gd (tg true z18.2.2 (z18.2.2 7 6) = 2) <|
  gd (0 ≤ (z18.2.2 7 6) ∧ ¬ (1438 ≤ (z18.2.2 7 6) ∧ (z18.2.2 7 6) < 1514)) <|
  bnd (ux z18.2.2 (z18.2.2 7 6) 0 1) fun s23 =>
  x2_all_L60
    (fun (s53 : XS) =>
      gd (¬ (s53 7 6) = -1) <|
      some (0, (s53 7 6), s53))
    FU s23
  else some (1, 0, z18.2.2)
  else some (1, 0, z13.2.2)
  else some (1, 0, z10.2.2)
theorem wx2_all_L60 {l : Launch} {x0 : Nat} {D : XD} {cN sN : Nat} {res : RX} {k141 : XS → Option RX} (hk141 : ∀ (s25 : XS), k141 s25 = some res → GX l cX2_all "VerbAtDusk$Reader" 3 (some (.object "VerbAtDusk$Country")) "all" [] x0 D true 3 1082 cN sN res s25 141 [(0, .ref (ad x0 7))] []) : ∀ (n : Nat) (s24 : XS), x2_all_L60 k141 n s24 = some res → GX l cX2_all "VerbAtDusk$Reader" 3 (some (.object "VerbAtDusk$Country")) "all" [] x0 D true 3 1082 cN sN res s24 60 [(0, .ref (ad x0 7))] [] := by
  intro n
  induction n with
  | zero =>
    intro s24 h
    cases h
  | succ n ih =>
    intro s24 h
    rw [x2_all_L60] at h
    refine gx_aload_n 60 0 dX2_all_60 rfl ?_
    obtain ⟨z26, ez26, h⟩ := opt_e h
    refine gx_callV (As := []) (rest := []) (st' := [J z26.1]) 61 0 cw3 (tgs (show stc 7 = (3, 0) by decide) (by decide)) (mx2_here ez26 l) (lw_V q636 q638 qs6 q152 q639) (by decide +kernel) (by decide) rfl rfl (Nat.le_of_ble_eq_true rfl) dX2_all_61 rfl ?_
    refine gx_iconst 64 dX2_all_64 ?_
    refine gx_icmp_eq 65 141 dX2_all_65 (by decide) (fun c27 => ?_) (fun c27 => ?_)
    · replace h := if_t h c27
      refine gx_sub [0] rfl ?_
      exact hk141 _ h
    · replace h := if_f h c27
      refine gx_aload_n 68 0 dX2_all_68 rfl ?_
      refine gx_aload_n 69 0 dX2_all_69 rfl ?_
      obtain ⟨g28, h⟩ := gd_e h
      refine gx_get (t := 3) (k := 6) (v := .ref (ad x0 (z26.2 7 6))) 70 cw3 (by decide) (tgs (show stc 7 = (3, 0) by decide) (by decide)) q358 same_f (rf_ne g28) dX2_all_70 ?_
      obtain ⟨g29, h⟩ := gd_e h
      refine gx_getN (t := 2) (k := 0) (v := J (z26.2 (z26.2 7 6) 0)) 73 cw2 (by decide) g29 q232 same_f rfl dX2_all_73 ?_
      refine gx_bipush 76 dX2_all_76 (by decide) ?_
      obtain ⟨j51, ej51, h⟩ := bnd_e h
      have hj51 : ∀ (w30 : Int) (s31 : XS), j51 w30 s31 = some res → GX l cX2_all "VerbAtDusk$Reader" 3 (some (.object "VerbAtDusk$Country")) "all" [] x0 D true 3 1082 cN sN res s31 86 [(0, .ref (ad x0 7))] [J w30, .ref (ad x0 7)] := by
        clear h
        intro w30 s31 h
        subst ej51
        refine gx_aload_n 86 0 dX2_all_86 rfl ?_
        refine gx_get (t := 3) (k := 2) (v := J (s31 7 2)) 87 cw3 (by decide) (tgs (show stc 7 = (3, 0) by decide) (by decide)) q354 same_f rfl dX2_all_87 ?_
        obtain ⟨z32, ez32, h⟩ := opt_e h
        by_cases c33 : z32.1 = 0
        rotate_left
        · replace h := if_f h c33
          exact gx_callTX (As := [J w30, J (s31 7 2)]) (rest := []) 90 2 rfl cw3 (tgs (show stc 7 = (3, 0) by decide) (by decide)) c33 (mx2_most ez32 l) (lw_V q754 q756 qs12 q152 q757) (by decide +kernel) (by decide) rfl rfl (Nat.le_of_ble_eq_true rfl) dX2_all_90 h
        replace h := if_t h c33
        refine gx_callT (As := [J w30, J (s31 7 2)]) (rest := []) (st' := []) 90 2 cw3 (tgs (show stc 7 = (3, 0) by decide) (by decide)) c33 (mx2_most ez32 l) (lw_V q754 q756 qs12 q152 q757) (by decide +kernel) (by decide) rfl rfl (Nat.le_of_ble_eq_true rfl) dX2_all_90 rfl ?_
        refine gx_aload_n 93 0 dX2_all_93 rfl ?_
        obtain ⟨g34, h⟩ := gd_e h
        refine gx_get (t := 3) (k := 6) (v := .ref (ad x0 (z32.2.2 7 6))) 94 cw3 (by decide) (tgs (show stc 7 = (3, 0) by decide) (by decide)) q358 same_f (rf_ne g34) dX2_all_94 ?_
        refine gx_dup 97 dX2_all_97 rfl ?_
        obtain ⟨g35, h⟩ := gd_e h
        refine gx_getN (t := 2) (k := 0) (v := J (z32.2.2 (z32.2.2 7 6) 0)) 98 cw2 (by decide) g35 q232 same_f rfl dX2_all_98 ?_
        refine gx_iconst 101 dX2_all_101 ?_
        refine gx_iadd 102 dX2_all_102 ?_
        obtain ⟨g36, h⟩ := gd_e h
        obtain ⟨g37, h⟩ := gd_e h
        obtain ⟨s38, es38, h⟩ := bnd_e h
        refine gx_putN (t := 2) (k := 0) (x := ((z32.2.2 (z32.2.2 7 6) 0) + 1)) (ty := .int) 103 cw2 (by decide) g36 g37.1 g37.2 q232 same_f rfl (by decide +kernel) rfl rfl (congrArg J (ux_s _ _ _ _)) es38 dX2_all_103 ?_
        refine gx_aload_n 106 0 dX2_all_106 rfl ?_
        obtain ⟨z39, ez39, h⟩ := opt_e h
        by_cases c40 : z39.1 = 0
        rotate_left
        · replace h := if_f h c40
          exact gx_callTX (As := []) (rest := []) 107 0 rfl cw3 (tgs (show stc 7 = (3, 0) by decide) (by decide)) c40 (mx2_word_2 ez39 l) (lw_V q632 q634 qs5 q152 q635) (by decide +kernel) (by decide) rfl rfl (Nat.le_of_ble_eq_true rfl) dX2_all_107 h
        replace h := if_t h c40
        refine gx_callT (As := []) (rest := []) (st' := [.ref (ad x0 z39.2.1)]) 107 0 cw3 (tgs (show stc 7 = (3, 0) by decide) (by decide)) c40 (mx2_word_2 ez39 l) (lw_V q632 q634 qs5 q152 q635) (by decide +kernel) (by decide) rfl rfl (Nat.le_of_ble_eq_true rfl) dX2_all_107 rfl ?_
        obtain ⟨x2_41, ex2_41, h⟩ := bnd_e h
        refine gx_astore_nv 110 [(2, .ref (ad x0 x2_41)), (0, .ref (ad x0 7))] dX2_all_110 (by decide) ex2_41 rfl ?_
        refine gx_aload_n 111 1 dX2_all_111 rfl ?_
        refine gx_aload_n 112 0 dX2_all_112 rfl ?_
        refine gx_aload_n 113 1 dX2_all_113 rfl ?_
        refine gx_get (t := 3) (k := 3) (v := J (z39.2.2 7 3)) 114 cw3 (by decide) (tgs (show stc 7 = (3, 0) by decide) (by decide)) q355 same_f rfl dX2_all_114 ?_
        obtain ⟨z42, ez42, h⟩ := opt_e h
        by_cases c43 : z42.1 = 0
        rotate_left
        · replace h := if_f h c43
          exact gx_callTX (As := [.ref (ad x0 x2_41), J (z39.2.2 7 3)]) (rest := []) 117 2 rfl cw3 (tgs (show stc 7 = (3, 0) by decide) (by decide)) c43 (mx2_named ez42 l) (lw_V q758 q760 qs13 q152 q761) (by decide +kernel) (by decide) rfl rfl (Nat.le_of_ble_eq_true rfl) dX2_all_117 h
        replace h := if_t h c43
        refine gx_callT (As := [.ref (ad x0 x2_41), J (z39.2.2 7 3)]) (rest := []) (st' := [J z42.2.1]) 117 2 cw3 (tgs (show stc 7 = (3, 0) by decide) (by decide)) c43 (mx2_named ez42 l) (lw_V q758 q760 qs13 q152 q761) (by decide +kernel) (by decide) rfl rfl (Nat.le_of_ble_eq_true rfl) dX2_all_117 rfl ?_
        obtain ⟨j47, ej47, h⟩ := bnd_e h
        have hj47 : ∀ (s44 : XS), j47 s44 = some res → GX l cX2_all "VerbAtDusk$Reader" 3 (some (.object "VerbAtDusk$Country")) "all" [] x0 D true 3 1082 cN sN res s44 132 [(0, .ref (ad x0 7))] [] := by
          clear h
          intro s44 h
          subst ej47
          refine gx_aload_n 132 0 dX2_all_132 rfl ?_
          refine gx_bipush 133 dX2_all_133 (by decide) ?_
          obtain ⟨z45, ez45, h⟩ := opt_e h
          by_cases c46 : z45.1 = 0
          rotate_left
          · replace h := if_f h c46
            exact gx_callTX (As := [J 59]) (rest := []) 135 1 rfl cw3 (tgs (show stc 7 = (3, 0) by decide) (by decide)) c46 (mx2_must ez45 l) (lw_V q750 q752 qs11 q152 q753) (by decide +kernel) (by decide) rfl rfl (Nat.le_of_ble_eq_true rfl) dX2_all_135 h
          replace h := if_t h c46
          refine gx_callT (As := [J 59]) (rest := []) (st' := []) 135 1 cw3 (tgs (show stc 7 = (3, 0) by decide) (by decide)) c46 (mx2_must ez45 l) (lw_V q750 q752 qs11 q152 q753) (by decide +kernel) (by decide) rfl rfl (Nat.le_of_ble_eq_true rfl) dX2_all_135 rfl ?_
          refine gx_goto 138 60 dX2_all_138 (by decide) ?_
          refine gx_sub [0] rfl ?_
          exact ih _ h
        refine gx_if_ne 120 132 dX2_all_120 (by decide) (fun c48 => ?_) (fun c48 => ?_)
        · replace h := if_f h c48
          refine gx_sub [1] rfl ?_
          exact hj47 _ h
        · replace h := if_t h c48
          refine gx_aload_n 123 1 dX2_all_123 rfl ?_
          refine gx_aload_n 124 0 dX2_all_124 rfl ?_
          refine gx_aload_n 125 1 dX2_all_125 rfl ?_
          refine gx_get (t := 3) (k := 3) (v := J (z42.2.2 7 3)) 126 cw3 (by decide) (tgs (show stc 7 = (3, 0) by decide) (by decide)) q355 same_f rfl dX2_all_126 ?_
          obtain ⟨z49, ez49, h⟩ := opt_e h
          by_cases c50 : z49.1 = 0
          rotate_left
          · replace h := if_f h c50
            exact gx_callTX (As := [.ref (ad x0 x2_41), J (z42.2.2 7 3)]) (rest := []) 129 2 rfl cw3 (tgs (show stc 7 = (3, 0) by decide) (by decide)) c50 (mx2_more ez49 l) (lw_V q1012 q1014 qs20 q152 q1015) (by decide +kernel) (by decide) rfl rfl (Nat.le_of_ble_eq_true rfl) dX2_all_129 h
          replace h := if_t h c50
          refine gx_callT (As := [.ref (ad x0 x2_41), J (z42.2.2 7 3)]) (rest := []) (st' := []) 129 2 cw3 (tgs (show stc 7 = (3, 0) by decide) (by decide)) c50 (mx2_more ez49 l) (lw_V q1012 q1014 qs20 q152 q1015) (by decide +kernel) (by decide) rfl rfl (Nat.le_of_ble_eq_true rfl) dX2_all_129 rfl ?_
          refine gx_sub [1] rfl ?_
          exact hj47 _ h
      refine gx_icmp_ne 78 85 dX2_all_78 (by decide) (fun c52 => ?_) (fun c52 => ?_)
      · replace h := if_f h c52
        refine gx_iconst 85 dX2_all_85 ?_
        refine gx_sub [0] rfl ?_
        exact hj51 _ _ h
      · replace h := if_t h c52
        refine gx_iconst 81 dX2_all_81 ?_
        refine gx_goto 82 86 dX2_all_82 (by decide) ?_
        refine gx_sub [0] rfl ?_
        exact hj51 _ _ h
theorem mx2_all {x0 : Nat} {D : XD} {a1 : Int} {s0 : XS} {res : RX} (h : x2_all a1 s0 = some res) (l : Launch) : XMet l yX2_all cX2_all 3 (some (.object "VerbAtDusk$Country")) 1082 true x0 D [.ref (ad x0 7), J a1] s0 3 res := by
  refine XMet.ofn [(0, .ref (ad x0 7)), (1, J a1)] "VerbAtDusk$Reader" "all" rfl rfl (by decide) (Nat.le_of_ble_eq_true rfl) rfl ?_
  unfold x2_all at h
  generalize nC s0 = cN
  generalize nS s0 = sN
  refine gx_aload_n 0 0 dX2_all_0 rfl ?_
  obtain ⟨g2, h⟩ := gd_e h
  obtain ⟨s3, es3, h⟩ := bnd_e h
  refine gx_new (t := 2) 1 g2 cw2 tyX1 tyX1_ok (df_2 true x0 _) q625 q198 q148 es3 dX2_all_1 ?_
  refine gx_dup 4 dX2_all_4 rfl ?_
  obtain ⟨z4, ez4, h⟩ := opt_e h
  refine gx_callIN (As := []) (rest := [.ref (ad x0 (s0 (-1) 0)), .ref (ad x0 7)]) 5 0 (mx1_init ez4 l) q201 q148 q626 q200 rfl (by decide +kernel) (by decide) rfl rfl (Nat.le_of_ble_eq_true rfl) dX2_all_5 ?_
  obtain ⟨g5, h⟩ := gd_e h
  obtain ⟨s6, es6, h⟩ := bnd_e h
  refine gx_put (t := 3) (k := 6) (x := (s0 (-1) 0)) (ty := (.object "VerbAtDusk$Country")) 8 cw3 (by decide) (tgs (show stc 7 = (3, 0) by decide) (by decide)) (st0 (show stc 7 = (3, 0) by decide) (by decide)) (stm (show stc 7 = (3, 0) by decide) (by decide)) q358 same_f rfl (by decide +kernel) (refOk rfl _).1 (refOk rfl _).2 ((congrArg (rf x0) (ux_s _ _ _ _)).trans (rf_ne g5)) es6 dX2_all_8 ?_
  refine gx_aload_n 11 0 dX2_all_11 rfl ?_
  refine gx_iload_n 12 1 dX2_all_12 rfl ?_
  obtain ⟨s7, es7, h⟩ := bnd_e h
  refine gx_put (t := 3) (k := 1) (x := a1) (ty := .int) 13 cw3 (by decide) (tgs (show stc 7 = (3, 0) by decide) (by decide)) (st0 (show stc 7 = (3, 0) by decide) (by decide)) (stm (show stc 7 = (3, 0) by decide) (by decide)) q353 same_f rfl (by decide +kernel) rfl rfl (congrArg J (ux_s _ _ _ _)) es7 dX2_all_13 ?_
  refine gx_aload_n 16 0 dX2_all_16 rfl ?_
  refine gx_iconst 17 dX2_all_17 ?_
  obtain ⟨s8, es8, h⟩ := bnd_e h
  refine gx_put (t := 3) (k := 2) (x := 0) (ty := .int) 18 cw3 (by decide) (tgs (show stc 7 = (3, 0) by decide) (by decide)) (st0 (show stc 7 = (3, 0) by decide) (by decide)) (stm (show stc 7 = (3, 0) by decide) (by decide)) q354 same_f rfl (by decide +kernel) rfl rfl (congrArg J (ux_s _ _ _ _)) es8 dX2_all_18 ?_
  refine gx_aload_n 21 0 dX2_all_21 rfl ?_
  refine gx_iconst 22 dX2_all_22 ?_
  obtain ⟨s9, es9, h⟩ := bnd_e h
  refine gx_put (t := 3) (k := 4) (x := 0) (ty := .int) 23 cw3 (by decide) (tgs (show stc 7 = (3, 0) by decide) (by decide)) (st0 (show stc 7 = (3, 0) by decide) (by decide)) (stm (show stc 7 = (3, 0) by decide) (by decide)) q356 same_f rfl (by decide +kernel) rfl rfl (congrArg J (ux_s _ _ _ _)) es9 dX2_all_23 ?_
  refine gx_aload_n 26 0 dX2_all_26 rfl ?_
  refine gx_ldcS (j := 20) (tx := "dusk") 27 (by decide) rfl dX2_all_27 ?_
  obtain ⟨z10, ez10, h⟩ := opt_e h
  by_cases c11 : z10.1 = 0
  rotate_left
  · replace h := if_f h c11
    exact gx_callTX (As := [.ref (ad x0 (s9 (-1) 120))]) (rest := []) 29 1 rfl cw3 (tgs (show stc 7 = (3, 0) by decide) (by decide)) c11 (mx2_word ez10 l) (lw_V q628 q630 qs4 q152 q631) (by decide +kernel) (by decide) rfl rfl (Nat.le_of_ble_eq_true rfl) dX2_all_29 h
  replace h := if_t h c11
  refine gx_callT (As := [.ref (ad x0 (s9 (-1) 120))]) (rest := []) (st' := []) 29 1 cw3 (tgs (show stc 7 = (3, 0) by decide) (by decide)) c11 (mx2_word ez10 l) (lw_V q628 q630 qs4 q152 q631) (by decide +kernel) (by decide) rfl rfl (Nat.le_of_ble_eq_true rfl) dX2_all_29 rfl ?_
  refine gx_aload_n 32 0 dX2_all_32 rfl ?_
  obtain ⟨g12, h⟩ := gd_e h
  refine gx_get (t := 3) (k := 6) (v := .ref (ad x0 (z10.2.2 7 6))) 33 cw3 (by decide) (tgs (show stc 7 = (3, 0) by decide) (by decide)) q358 same_f (rf_ne g12) dX2_all_33 ?_
  refine gx_aload_n 36 0 dX2_all_36 rfl ?_
  refine gx_iconst 37 dX2_all_37 ?_
  refine gx_bipush 38 dX2_all_38 (by decide) ?_
  obtain ⟨z13, ez13, h⟩ := opt_e h
  by_cases c14 : z13.1 = 0
  rotate_left
  · replace h := if_f h c14
    exact gx_callTX (As := [J 1, J 99]) (rest := [.ref (ad x0 (z10.2.2 7 6))]) 40 2 rfl cw3 (tgs (show stc 7 = (3, 0) by decide) (by decide)) c14 (mx2_number ez13 l) (lw_V q743 q745 qs10 q152 q746) (by decide +kernel) (by decide) rfl rfl (Nat.le_of_ble_eq_true rfl) dX2_all_40 h
  replace h := if_t h c14
  refine gx_callT (As := [J 1, J 99]) (rest := [.ref (ad x0 (z10.2.2 7 6))]) (st' := [J z13.2.1, .ref (ad x0 (z10.2.2 7 6))]) 40 2 cw3 (tgs (show stc 7 = (3, 0) by decide) (by decide)) c14 (mx2_number ez13 l) (lw_V q743 q745 qs10 q152 q746) (by decide +kernel) (by decide) rfl rfl (Nat.le_of_ble_eq_true rfl) dX2_all_40 rfl ?_
  obtain ⟨g15, h⟩ := gd_e h
  obtain ⟨g16, h⟩ := gd_e h
  obtain ⟨s17, es17, h⟩ := bnd_e h
  refine gx_putN (t := 2) (k := 1) (x := z13.2.1) (ty := .int) 43 cw2 (by decide) g15 g16.1 g16.2 q234 same_f rfl (by decide +kernel) rfl rfl (congrArg J (ux_s _ _ _ _)) es17 dX2_all_43 ?_
  refine gx_aload_n 46 0 dX2_all_46 rfl ?_
  refine gx_bipush 47 dX2_all_47 (by decide) ?_
  obtain ⟨z18, ez18, h⟩ := opt_e h
  by_cases c19 : z18.1 = 0
  rotate_left
  · replace h := if_f h c19
    exact gx_callTX (As := [J 59]) (rest := []) 49 1 rfl cw3 (tgs (show stc 7 = (3, 0) by decide) (by decide)) c19 (mx2_must ez18 l) (lw_V q750 q752 qs11 q152 q753) (by decide +kernel) (by decide) rfl rfl (Nat.le_of_ble_eq_true rfl) dX2_all_49 h
  replace h := if_t h c19
  refine gx_callT (As := [J 59]) (rest := []) (st' := []) 49 1 cw3 (tgs (show stc 7 = (3, 0) by decide) (by decide)) c19 (mx2_must ez18 l) (lw_V q750 q752 qs11 q152 q753) (by decide +kernel) (by decide) rfl rfl (Nat.le_of_ble_eq_true rfl) dX2_all_49 rfl ?_
  refine gx_aload_n 52 0 dX2_all_52 rfl ?_
  obtain ⟨g20, h⟩ := gd_e h
  refine gx_get (t := 3) (k := 6) (v := .ref (ad x0 (z18.2.2 7 6))) 53 cw3 (by decide) (tgs (show stc 7 = (3, 0) by decide) (by decide)) q358 same_f (rf_ne g20) dX2_all_53 ?_
  refine gx_iconst 56 dX2_all_56 ?_
  obtain ⟨g21, h⟩ := gd_e h
  obtain ⟨g22, h⟩ := gd_e h
  obtain ⟨s23, es23, h⟩ := bnd_e h
  refine gx_putN (t := 2) (k := 0) (x := 1) (ty := .int) 57 cw2 (by decide) g21 g22.1 g22.2 q232 same_f rfl (by decide +kernel) rfl rfl (congrArg J (ux_s _ _ _ _)) es23 dX2_all_57 ?_
  refine gx_sub [0] rfl ?_
  refine wx2_all_L60 (fun s53 h => ?_) FU _ h
  · refine gx_aload_n 141 0 dX2_all_141 rfl ?_
    obtain ⟨g54, h⟩ := gd_e h
    refine gx_get (t := 3) (k := 6) (v := .ref (ad x0 (s53 7 6))) 142 cw3 (by decide) (tgs (show stc 7 = (3, 0) by decide) (by decide)) q358 same_f (rf_ne g54) dX2_all_142 ?_
    exact gx_aret 145 (Or.inl ⟨_, rfl⟩) dX2_all_145 h
/-! VerbAtDusk$Reader.question -/
noncomputable def x2_question (a1 : Int) (s0 : XS) : Option RX :=
  bnd (ux s0 7 1 a1) fun s2 =>
  bnd (ux s2 7 2 0) fun s3 =>
  bnd (ux s3 7 4 0) fun s4 =>
  bnd (ux s4 7 5 497) fun s5 =>
  Option.bind (x2_word_2 s5) fun z6 =>
  if z6.1 = 0 then
  gd (¬ (z6.2.2 (-1) 103) = -1) <|
  Option.bind (x0_find z6.2.1 (z6.2.2 (-1) 103) z6.2.2) fun z9 =>
  bnd z9.1 fun x2_10 =>
  if i32 x2_10 = i32 (-1) then
    Option.bind (x2_wrong 1 (z9.2 7 3) z9.2) fun z32 =>
    gd (z32.1 = 8) <|
    some (1, 0, z32.2)
  else
    bnd (fun (w12 : Int) (s13 : XS) =>
        Option.bind (x2_here s13) fun z14 =>
        if i32 z14.1 = i32 (-1) then
          some (0, w12, z14.2)
        else
          Option.bind (x2_wrong 1 (z14.2 7 2) z14.2) fun z16 =>
          gd (z16.1 = 8) <|
          some (1, 0, z16.2)) fun j18 =>
    if i32 3 ≤ i32 x2_10 then
      gd (0 ≤ z9.2 (-1) 0 ∧ 0 ≤ z9.2 (-1) 1) <|
      bnd (nwx z9.2 20 0 5 (dfl 20)) fun s21 =>
      Option.bind (x2_sum (x2_atom 9) s21) fun z22 =>
      if z22.1 = 0 then
      gd (¬ z22.2.1 = -1) <|
      Option.bind (x23_init true (z9.2 (-1) 0) x2_10 (-1) z22.2.1 z22.2.2) fun z24 =>
      j18 (z9.2 (-1) 0) z24.2
      else some (1, 0, z22.2.2)
    else
      gd (0 ≤ z9.2 (-1) 0 ∧ 0 ≤ z9.2 (-1) 1) <|
      bnd (nwx z9.2 20 0 5 (dfl 20)) fun s27 =>
      Option.bind (x2_test (x2_fact 9) s27) fun z28 =>
      if z28.1 = 0 then
      gd (¬ z28.2.1 = -1) <|
      Option.bind (x23_init true (z9.2 (-1) 0) x2_10 z28.2.1 (-1) z28.2.2) fun z30 =>
      j18 (z9.2 (-1) 0) z30.2
      else some (1, 0, z28.2.2)
  else some (1, 0, z6.2.2)
theorem mx2_question {x0 : Nat} {D : XD} {a1 : Int} {s0 : XS} {res : RX} (h : x2_question a1 s0 = some res) (l : Launch) : XMet l yX2_question cX2_question 4 (some (.object "VerbAtDusk$Question")) 1081 true x0 D [.ref (ad x0 7), J a1] s0 3 res := by
  refine XMet.ofn [(0, .ref (ad x0 7)), (1, J a1)] "VerbAtDusk$Reader" "question" rfl rfl (by decide) (Nat.le_of_ble_eq_true rfl) rfl ?_
  unfold x2_question at h
  generalize nC s0 = cN
  generalize nS s0 = sN
  refine gx_aload_n 0 0 dX2_question_0 rfl ?_
  refine gx_iload_n 1 1 dX2_question_1 rfl ?_
  obtain ⟨s2, es2, h⟩ := bnd_e h
  refine gx_put (t := 3) (k := 1) (x := a1) (ty := .int) 2 cw3 (by decide) (tgs (show stc 7 = (3, 0) by decide) (by decide)) (st0 (show stc 7 = (3, 0) by decide) (by decide)) (stm (show stc 7 = (3, 0) by decide) (by decide)) q353 same_f rfl (by decide +kernel) rfl rfl (congrArg J (ux_s _ _ _ _)) es2 dX2_question_2 ?_
  refine gx_aload_n 5 0 dX2_question_5 rfl ?_
  refine gx_iconst 6 dX2_question_6 ?_
  obtain ⟨s3, es3, h⟩ := bnd_e h
  refine gx_put (t := 3) (k := 2) (x := 0) (ty := .int) 7 cw3 (by decide) (tgs (show stc 7 = (3, 0) by decide) (by decide)) (st0 (show stc 7 = (3, 0) by decide) (by decide)) (stm (show stc 7 = (3, 0) by decide) (by decide)) q354 same_f rfl (by decide +kernel) rfl rfl (congrArg J (ux_s _ _ _ _)) es3 dX2_question_7 ?_
  refine gx_aload_n 10 0 dX2_question_10 rfl ?_
  refine gx_iconst 11 dX2_question_11 ?_
  obtain ⟨s4, es4, h⟩ := bnd_e h
  refine gx_put (t := 3) (k := 4) (x := 0) (ty := .int) 12 cw3 (by decide) (tgs (show stc 7 = (3, 0) by decide) (by decide)) (st0 (show stc 7 = (3, 0) by decide) (by decide)) (stm (show stc 7 = (3, 0) by decide) (by decide)) q356 same_f rfl (by decide +kernel) rfl rfl (congrArg J (ux_s _ _ _ _)) es4 dX2_question_12 ?_
  refine gx_aload_n 15 0 dX2_question_15 rfl ?_
  refine gx_sipush 16 dX2_question_16 (by decide) ?_
  obtain ⟨s5, es5, h⟩ := bnd_e h
  refine gx_put (t := 3) (k := 5) (x := 497) (ty := .int) 19 cw3 (by decide) (tgs (show stc 7 = (3, 0) by decide) (by decide)) (st0 (show stc 7 = (3, 0) by decide) (by decide)) (stm (show stc 7 = (3, 0) by decide) (by decide)) q357 same_f rfl (by decide +kernel) rfl rfl (congrArg J (ux_s _ _ _ _)) es5 dX2_question_19 ?_
  refine gx_aload_n 22 0 dX2_question_22 rfl ?_
  obtain ⟨z6, ez6, h⟩ := opt_e h
  by_cases c7 : z6.1 = 0
  rotate_left
  · replace h := if_f h c7
    exact gx_callTX (As := []) (rest := []) 23 0 rfl cw3 (tgs (show stc 7 = (3, 0) by decide) (by decide)) c7 (mx2_word_2 ez6 l) (lw_V q632 q634 qs5 q152 q635) (by decide +kernel) (by decide) rfl rfl (Nat.le_of_ble_eq_true rfl) dX2_question_23 h
  replace h := if_t h c7
  refine gx_callT (As := []) (rest := []) (st' := [.ref (ad x0 z6.2.1)]) 23 0 cw3 (tgs (show stc 7 = (3, 0) by decide) (by decide)) c7 (mx2_word_2 ez6 l) (lw_V q632 q634 qs5 q152 q635) (by decide +kernel) (by decide) rfl rfl (Nat.le_of_ble_eq_true rfl) dX2_question_23 rfl ?_
  obtain ⟨g8, h⟩ := gd_e h
  refine gx_getsR 26 3 (List.mem_of_getElem? (i := 4) rfl) q1678 g8 dX2_question_26 ?_
  obtain ⟨z9, ez9, h⟩ := opt_e h
  refine gx_callSN (As := [.ref (ad x0 z6.2.1), .ref (ad x0 (z6.2.2 (-1) 103))]) (rest := []) (st' := [J z9.1]) 29 2 (mx0_find ez9 l) q840 q147 q838 q839 (by decide +kernel) (by decide) rfl rfl (Nat.le_of_ble_eq_true rfl) dX2_question_29 rfl ?_
  obtain ⟨x2_10, ex2_10, h⟩ := bnd_e h
  refine gx_istore_n 32 [(2, J x2_10), (0, .ref (ad x0 7)), (1, J a1)] dX2_question_32 (by decide) ex2_10 rfl ?_
  refine gx_iload_n 33 0 dX2_question_33 rfl ?_
  refine gx_iconst 34 dX2_question_34 ?_
  refine gx_icmp_ne 35 48 dX2_question_35 (by decide) (fun c11 => ?_) (fun c11 => ?_)
  · replace h := if_f h c11
    refine gx_iload_n 48 0 dX2_question_48 rfl ?_
    refine gx_iconst 49 dX2_question_49 ?_
    obtain ⟨j18, ej18, h⟩ := bnd_e h
    have hj18 : ∀ (w12 : Int) (s13 : XS), j18 w12 s13 = some res → GX l cX2_question "VerbAtDusk$Reader" 4 (some (.object "VerbAtDusk$Question")) "question" [] x0 D true 3 1081 cN sN res s13 82 [(0, .ref (ad x0 7))] [.ref (ad x0 w12)] := by
      clear h
      intro w12 s13 h
      subst ej18
      refine gx_astore_nv 82 [(3, .ref (ad x0 w12)), (0, .ref (ad x0 7))] dX2_question_82 (by decide) rfl rfl ?_
      refine gx_aload_n 83 1 dX2_question_83 rfl ?_
      obtain ⟨z14, ez14, h⟩ := opt_e h
      refine gx_callV (As := []) (rest := []) (st' := [J z14.1]) 84 0 cw3 (tgs (show stc 7 = (3, 0) by decide) (by decide)) (mx2_here ez14 l) (lw_V q636 q638 qs6 q152 q639) (by decide +kernel) (by decide) rfl rfl (Nat.le_of_ble_eq_true rfl) dX2_question_84 rfl ?_
      refine gx_iconst 87 dX2_question_87 ?_
      refine gx_icmp_eq 88 101 dX2_question_88 (by decide) (fun c15 => ?_) (fun c15 => ?_)
      · replace h := if_t h c15
        refine gx_aload_n 101 0 dX2_question_101 rfl ?_
        exact gx_aret 102 (Or.inl ⟨_, rfl⟩) dX2_question_102 h
      · replace h := if_f h c15
        refine gx_aload_n 91 1 dX2_question_91 rfl ?_
        refine gx_iconst 92 dX2_question_92 ?_
        refine gx_aload_n 93 1 dX2_question_93 rfl ?_
        refine gx_get (t := 3) (k := 2) (v := J (z14.2 7 2)) 94 cw3 (by decide) (tgs (show stc 7 = (3, 0) by decide) (by decide)) q354 same_f rfl dX2_question_94 ?_
        obtain ⟨z16, ez16, h⟩ := opt_e h
        refine gx_callV (As := [J 1, J (z14.2 7 2)]) (rest := []) (st' := [.ref (ad x0 z16.1)]) 97 2 cw3 (tgs (show stc 7 = (3, 0) by decide) (by decide)) (mx2_wrong ez16 l) (lw_V q647 q649 qs8 q152 q650) (by decide +kernel) (by decide) rfl rfl (Nat.le_of_ble_eq_true rfl) dX2_question_97 rfl ?_
        obtain ⟨g17, h⟩ := gd_e h
        rw [g17]
        exact gx_athrowE 100 rfl rfl (tgs (show stc 8 = (4, 0) by decide) (by decide)) cw4 dX2_question_100 h
    refine gx_icmp_ge 50 69 dX2_question_50 (by decide) (fun c19 => ?_) (fun c19 => ?_)
    · replace h := if_t h c19
      obtain ⟨g20, h⟩ := gd_e h
      obtain ⟨s21, es21, h⟩ := bnd_e h
      refine gx_new (t := 20) 69 g20 cw20 tyX23 tyX23_ok (df_20 true x0 _) q1680 q1681 q188 es21 dX2_question_69 ?_
      refine gx_dup 72 dX2_question_72 rfl ?_
      refine gx_iload_n 73 0 dX2_question_73 rfl ?_
      refine gx_null 74 dX2_question_74 ?_
      refine gx_aload_n 75 1 dX2_question_75 rfl ?_
      obtain ⟨z22, ez22, h⟩ := opt_e h
      by_cases c23 : z22.1 = 0
      rotate_left
      · replace h := if_f h c23
        exact gx_callTX (As := []) (rest := [.null, J x2_10, .ref (ad x0 (z9.2 (-1) 0)), .ref (ad x0 (z9.2 (-1) 0))]) 76 0 rfl cw3 (tgs (show stc 7 = (3, 0) by decide) (by decide)) c23 (mx2_sum (mx2_atom_n (l := l) 9) ez22) (lw_V q1078 q1080 qs26 q152 q1081) (by decide +kernel) (by decide) rfl rfl (Nat.le_of_ble_eq_true rfl) dX2_question_76 h
      replace h := if_t h c23
      refine gx_callT (As := []) (rest := [.null, J x2_10, .ref (ad x0 (z9.2 (-1) 0)), .ref (ad x0 (z9.2 (-1) 0))]) (st' := [.ref (ad x0 z22.2.1), .null, J x2_10, .ref (ad x0 (z9.2 (-1) 0)), .ref (ad x0 (z9.2 (-1) 0))]) 76 0 cw3 (tgs (show stc 7 = (3, 0) by decide) (by decide)) c23 (mx2_sum (mx2_atom_n (l := l) 9) ez22) (lw_V q1078 q1080 qs26 q152 q1081) (by decide +kernel) (by decide) rfl rfl (Nat.le_of_ble_eq_true rfl) dX2_question_76 rfl ?_
      obtain ⟨g25, h⟩ := gd_e h
      obtain ⟨z24, ez24, h⟩ := opt_e h
      have hMz24 := mx23_init (x0 := x0) (D := D) ez24 l
      rw [rf_ne g25] at hMz24
      refine gx_callI (As := [J x2_10, .null, .ref (ad x0 z22.2.1)]) (rest := [.ref (ad x0 (z9.2 (-1) 0))]) 79 3 hMz24 q1684 q188 q1682 q1683 rfl (by decide +kernel) (by decide) rfl rfl (Nat.le_of_ble_eq_true rfl) dX2_question_79 ?_
      refine gx_sub [1] rfl ?_
      exact hj18 _ _ h
    · replace h := if_f h c19
      obtain ⟨g26, h⟩ := gd_e h
      obtain ⟨s27, es27, h⟩ := bnd_e h
      refine gx_new (t := 20) 53 g26 cw20 tyX23 tyX23_ok (df_20 true x0 _) q1680 q1681 q188 es27 dX2_question_53 ?_
      refine gx_dup 56 dX2_question_56 rfl ?_
      refine gx_iload_n 57 0 dX2_question_57 rfl ?_
      refine gx_aload_n 58 1 dX2_question_58 rfl ?_
      obtain ⟨z28, ez28, h⟩ := opt_e h
      by_cases c29 : z28.1 = 0
      rotate_left
      · replace h := if_f h c29
        exact gx_callTX (As := []) (rest := [J x2_10, .ref (ad x0 (z9.2 (-1) 0)), .ref (ad x0 (z9.2 (-1) 0))]) 59 0 rfl cw3 (tgs (show stc 7 = (3, 0) by decide) (by decide)) c29 (mx2_test (mx2_fact_n (l := l) 9) ez28) (lw_V q1020 q1022 qs21 q152 q1023) (by decide +kernel) (by decide) rfl rfl (Nat.le_of_ble_eq_true rfl) dX2_question_59 h
      replace h := if_t h c29
      refine gx_callT (As := []) (rest := [J x2_10, .ref (ad x0 (z9.2 (-1) 0)), .ref (ad x0 (z9.2 (-1) 0))]) (st' := [.ref (ad x0 z28.2.1), J x2_10, .ref (ad x0 (z9.2 (-1) 0)), .ref (ad x0 (z9.2 (-1) 0))]) 59 0 cw3 (tgs (show stc 7 = (3, 0) by decide) (by decide)) c29 (mx2_test (mx2_fact_n (l := l) 9) ez28) (lw_V q1020 q1022 qs21 q152 q1023) (by decide +kernel) (by decide) rfl rfl (Nat.le_of_ble_eq_true rfl) dX2_question_59 rfl ?_
      refine gx_null 62 dX2_question_62 ?_
      obtain ⟨g31, h⟩ := gd_e h
      obtain ⟨z30, ez30, h⟩ := opt_e h
      have hMz30 := mx23_init (x0 := x0) (D := D) ez30 l
      rw [rf_ne g31] at hMz30
      refine gx_callI (As := [J x2_10, .ref (ad x0 z28.2.1), .null]) (rest := [.ref (ad x0 (z9.2 (-1) 0))]) 63 3 hMz30 q1684 q188 q1682 q1683 rfl (by decide +kernel) (by decide) rfl rfl (Nat.le_of_ble_eq_true rfl) dX2_question_63 ?_
      refine gx_goto 66 82 dX2_question_66 (by decide) ?_
      refine gx_sub [1] rfl ?_
      exact hj18 _ _ h
  · replace h := if_t h c11
    refine gx_aload_n 38 1 dX2_question_38 rfl ?_
    refine gx_iconst 39 dX2_question_39 ?_
    refine gx_aload_n 40 1 dX2_question_40 rfl ?_
    refine gx_get (t := 3) (k := 3) (v := J (z9.2 7 3)) 41 cw3 (by decide) (tgs (show stc 7 = (3, 0) by decide) (by decide)) q355 same_f rfl dX2_question_41 ?_
    obtain ⟨z32, ez32, h⟩ := opt_e h
    refine gx_callV (As := [J 1, J (z9.2 7 3)]) (rest := []) (st' := [.ref (ad x0 z32.1)]) 44 2 cw3 (tgs (show stc 7 = (3, 0) by decide) (by decide)) (mx2_wrong ez32 l) (lw_V q647 q649 qs8 q152 q650) (by decide +kernel) (by decide) rfl rfl (Nat.le_of_ble_eq_true rfl) dX2_question_44 rfl ?_
    obtain ⟨g33, h⟩ := gd_e h
    rw [g33]
    exact gx_athrowE 47 rfl rfl (tgs (show stc 8 = (4, 0) by decide) (by decide)) cw4 dX2_question_47 h
