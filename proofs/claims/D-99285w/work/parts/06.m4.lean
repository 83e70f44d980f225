/-! THE REFERENCE: its methods as functions, and their walks (written by mall.py) -/
set_option maxRecDepth 100000
/-! isAsSeen(I)Z -/
noncomputable def m_isAsSeen_L2 (k70 : MS → Option (Int × MS)) (k62 : MS → Option (Int × MS)) : Nat → Int → Int → MS → Option (Int × MS)
  | 0, _, _, _ => none
  | n + 1, x1_3, x2_4, s5 =>
    if i32 (s5 64 0) ≤ i32 x2_4 then
      k70 s5
    else
      gd (ok 48 (3 * x2_4)) <|
      bnd (fun (x1_10 : Int) (x2_11 : Int) (s12 : MS) =>
          bnd (x2_11 + 1) fun x2_13 =>
          m_isAsSeen_L2 k70 k62 n x1_10 x2_13 s12) fun j14 =>
      if i32 (s5 65 (i32 (3 * x2_4))) = i32 x1_3 then
        gd (ok 219 0) <|
        if i32 999 < i32 (s5 48 (i32 0)) then
          k62 s5
        else
          gd (ok 48 ((3 * x2_4) + 1)) <|
          gd (ok 6 (s5 65 (i32 ((3 * x2_4) + 1)))) <|
          gd (ok 48 ((3 * x2_4) + 2)) <|
          if i32 (s5 62 (i32 (s5 65 (i32 ((3 * x2_4) + 1))))) = i32 (s5 65 (i32 ((3 * x2_4) + 2))) then
            j14 x1_3 x2_4 s5
          else
            k62 s5
      else
        j14 x1_3 x2_4 s5
noncomputable def m_isAsSeen (a1 : Int) (s0 : MS) : Option (Int × MS) :=
  bnd 0 fun x2_2 =>
  m_isAsSeen_L2
    (fun (s22 : MS) =>
      some (1, s22))
    (fun (s23 : MS) =>
      some (0, s23))
    FU a1 x2_2 s0
theorem wm_isAsSeen_L2 {p : Program} {l : Launch} {e : Env} {s : State} {m : MethodId} {args : Array Value} {below : List Frame} {meth : Method} {c : Code} {D : MD} {o : Nat} {res : Int × MS} {k70 : MS → Option (Int × MS)} {k62 : MS → Option (Int × MS)} (hC : GC p s m args meth c cX8_isAsSeen RX8 3 (some .boolean) (MK D)) (hk70 : ∀ (s6 : MS), k70 s6 = some res → GW p l e (rmd 1) s m args below meth c 3 (mAd o) (MRp D o) (MK D) 1 res s6 70 [] []) (hk62 : ∀ (s7 : MS), k62 s7 = some res → GW p l e (rmd 1) s m args below meth c 3 (mAd o) (MRp D o) (MK D) 1 res s7 62 [] []) : ∀ (n : Nat) (x1_3 : Int) (x2_4 : Int) (s5 : MS), m_isAsSeen_L2 k70 k62 n x1_3 x2_4 s5 = some res → GW p l e (rmd 1) s m args below meth c 3 (mAd o) (MRp D o) (MK D) 1 res s5 2 [(0, .ref o), (1, J x1_3), (2, J x2_4)] [] := by
  intro n
  induction n with
  | zero =>
    intro x1_3 x2_4 s5 h
    cases h
  | succ n ih =>
    intro x1_3 x2_4 s5 h
    rw [m_isAsSeen_L2] at h
    refine gw_iload_n 2 2 hC dX8_isAsSeen_2 rfl ?_
    refine gw_aload_n 3 0 hC dX8_isAsSeen_3 rfl ?_
    refine mg_64 4 hC dX8_isAsSeen_4 ?_
    refine gw_icmp_ge 7 70 hC dX8_isAsSeen_7 (by decide) (fun c8 => ?_) (fun c8 => ?_)
    · replace h := if_t h c8
      refine gw_sub [] rfl ?_
      exact hk70 _ h
    · replace h := if_f h c8
      refine gw_aload_n 10 0 hC dX8_isAsSeen_10 rfl ?_
      refine mg_65 11 hC dX8_isAsSeen_11 ?_
      refine gw_iconst 14 hC dX8_isAsSeen_14 ?_
      refine gw_iload_n 15 2 hC dX8_isAsSeen_15 rfl ?_
      refine gw_imul 16 hC dX8_isAsSeen_16 ?_
      obtain ⟨g9, h⟩ := gd_e h
      refine m_iald 17 65 hC (by decide) rfl g9 dX8_isAsSeen_17 ?_
      refine gw_iload_n 18 1 hC dX8_isAsSeen_18 rfl ?_
      obtain ⟨j14, ej14, h⟩ := bnd_e h
      have hj14 : ∀ (x1_10 : Int) (x2_11 : Int) (s12 : MS), j14 x1_10 x2_11 s12 = some res → GW p l e (rmd 1) s m args below meth c 3 (mAd o) (MRp D o) (MK D) 1 res s12 64 [(0, .ref o), (1, J x1_10), (2, J x2_11)] [] := by
        clear h
        intro x1_10 x2_11 s12 h
        subst ej14
        obtain ⟨x2_13, ex2_13, h⟩ := bnd_e h
        refine gw_iinc 64 2 [(2, J x2_13), (0, .ref o), (1, J x1_10)] hC dX8_isAsSeen_64 rfl ex2_13 (by decide) rfl ?_
        refine gw_goto 67 2 hC dX8_isAsSeen_67 (by decide) ?_
        refine gw_sub [1, 2, 0] rfl ?_
        exact ih _ _ _ h
      refine gw_icmp_ne 19 64 hC dX8_isAsSeen_19 (by decide) (fun c15 => ?_) (fun c15 => ?_)
      · replace h := if_f h c15
        refine gw_sub [0, 1, 2] rfl ?_
        exact hj14 _ _ _ h
      · replace h := if_t h c15
        refine gw_aload_n 22 0 hC dX8_isAsSeen_22 rfl ?_
        refine mg_48 23 hC dX8_isAsSeen_23 ?_
        refine gw_iconst 26 hC dX8_isAsSeen_26 ?_
        obtain ⟨g16, h⟩ := gd_e h
        refine m_iald 27 48 hC (by decide) rfl g16 dX8_isAsSeen_27 ?_
        refine gw_sipush 28 hC dX8_isAsSeen_28 (by decide) ?_
        refine gw_icmp_gt 31 62 hC dX8_isAsSeen_31 (by decide) (fun c17 => ?_) (fun c17 => ?_)
        · replace h := if_t h c17
          refine gw_sub [] rfl ?_
          exact hk62 _ h
        · replace h := if_f h c17
          refine gw_aload_n 34 0 hC dX8_isAsSeen_34 rfl ?_
          refine mg_62 35 hC dX8_isAsSeen_35 ?_
          refine gw_aload_n 38 0 hC dX8_isAsSeen_38 rfl ?_
          refine mg_65 39 hC dX8_isAsSeen_39 ?_
          refine gw_iconst 42 hC dX8_isAsSeen_42 ?_
          refine gw_iload_n 43 2 hC dX8_isAsSeen_43 rfl ?_
          refine gw_imul 44 hC dX8_isAsSeen_44 ?_
          refine gw_iconst 45 hC dX8_isAsSeen_45 ?_
          refine gw_iadd 46 hC dX8_isAsSeen_46 ?_
          obtain ⟨g18, h⟩ := gd_e h
          refine m_iald 47 65 hC (by decide) rfl g18 dX8_isAsSeen_47 ?_
          obtain ⟨g19, h⟩ := gd_e h
          refine m_iald 48 62 hC (by decide) rfl g19 dX8_isAsSeen_48 ?_
          refine gw_aload_n 49 0 hC dX8_isAsSeen_49 rfl ?_
          refine mg_65 50 hC dX8_isAsSeen_50 ?_
          refine gw_iconst 53 hC dX8_isAsSeen_53 ?_
          refine gw_iload_n 54 2 hC dX8_isAsSeen_54 rfl ?_
          refine gw_imul 55 hC dX8_isAsSeen_55 ?_
          refine gw_iconst 56 hC dX8_isAsSeen_56 ?_
          refine gw_iadd 57 hC dX8_isAsSeen_57 ?_
          obtain ⟨g20, h⟩ := gd_e h
          refine m_iald 58 65 hC (by decide) rfl g20 dX8_isAsSeen_58 ?_
          refine gw_icmp_eq 59 64 hC dX8_isAsSeen_59 (by decide) (fun c21 => ?_) (fun c21 => ?_)
          · replace h := if_t h c21
            refine gw_sub [0, 1, 2] rfl ?_
            exact hj14 _ _ _ h
          · replace h := if_f h c21
            refine gw_sub [] rfl ?_
            exact hk62 _ h
theorem met_isAsSeen {D : MD} {o : Nat} {a1 : Int} {s0 : MS} {res : Int × MS} (h : m_isAsSeen a1 s0 = some res) (l : Launch) : GMet l yX8_isAsSeen cX8_isAsSeen 3 (some .boolean) 1 (MRp D o) (MK D) (mAd o) [.ref o, J a1] s0 1 res := by
  refine GMet.of [(0, .ref o), (1, J a1)] (by decide) (MK_moved D) (Nat.le_of_ble_eq_true rfl) rfl ?_
  intro p e s m args below meth c hC
  have hC : GC p s m args meth c cX8_isAsSeen RX8 3 (some .boolean) (MK D) := hC
  unfold m_isAsSeen at h
  refine gw_iconst 0 hC dX8_isAsSeen_0 ?_
  obtain ⟨x2_2, ex2_2, h⟩ := bnd_e h
  refine gw_istore_n 1 [(2, J x2_2), (0, .ref o), (1, J a1)] hC dX8_isAsSeen_1 (by decide) ex2_2 rfl ?_
  refine gw_sub [1, 2, 0] rfl ?_
  refine wm_isAsSeen_L2 hC (fun s22 h => ?_) (fun s23 h => ?_) FU _ _ _ h
  · refine gw_iconst 70 hC dX8_isAsSeen_70 ?_
    exact gw_zret 71 hC dX8_isAsSeen_71 (by decide) h
  · refine gw_iconst 62 hC dX8_isAsSeen_62 ?_
    exact gw_zret 63 hC dX8_isAsSeen_63 (by decide) h
/-! laysTones(I)V -/
noncomputable def m_laysTones_L37 (k91 : Int → Int → Int → MS → Option (Int × MS)) : Nat → Int → Int → Int → Int → MS → Option (Int × MS)
  | 0, _, _, _, _, _ => none
  | n + 1, x1_14, x2_15, x3_16, x4_17, s18 =>
    if i32 20 < i32 x4_17 then
      k91 x1_14 x2_15 x3_16 s18
    else
      Option.bind (m_dayGoes s18) fun z24 =>
      bnd (fun (x1_25 : Int) (x2_26 : Int) (x4_27 : Int) (w28 : Int) (s29 : MS) =>
          gd (ok 6 x1_25) <|
          gd (ok 210 ((21 * x2_26) + x4_27)) <|
          bnd (up s29 66 (i32 ((21 * x2_26) + x4_27)) (s29 62 (i32 x1_25))) fun s32 =>
          bnd (x4_27 + 1) fun x4_33 =>
          m_laysTones_L37 k91 n x1_25 x2_26 w28 x4_33 s32) fun j34 =>
      bnd (fun (x1_35 : Int) (x2_36 : Int) (x4_37 : Int) (s38 : MS) =>
          j34 x1_35 x2_36 x4_37 0 s38) fun j39 =>
      if i32 x3_16 = 0 then
        j39 x1_14 x2_15 x4_17 z24.2
      else
        Option.bind (m_isAsSeen x4_17 z24.2) fun z41 =>
        if i32 z41.1 = 0 then
          j39 x1_14 x2_15 x4_17 z41.2
        else
          j34 x1_14 x2_15 x4_17 1 z41.2
noncomputable def m_laysTones_L11 (k122 : MS → Option (Int × MS)) : Nat → Int → Int → MS → Option (Int × MS)
  | 0, _, _, _ => none
  | n + 1, x1_5, x2_6, s7 =>
    if i32 10 ≤ i32 x2_6 then
      k122 s7
    else
      gd (ok 219 ((8 + (10 * x1_5)) + 2)) <|
      bnd (up s7 48 (i32 ((8 + (10 * x1_5)) + 2)) x2_6) fun s11 =>
      bnd 1 fun x3_12 =>
      bnd 0 fun x4_13 =>
      m_laysTones_L37
        (fun (x1_43 : Int) (x2_44 : Int) (x3_45 : Int) (s46 : MS) =>
          Option.bind (m_triesAnew s46) fun z47 =>
          gd (ok 10 x2_44) <|
          gd (bz x3_45) <|
          bnd (up z47.2 67 (i32 x2_44) x3_45) fun s50 =>
          bnd (fun (x1_51 : Int) (x2_52 : Int) (s53 : MS) =>
              bnd (x2_52 + 1) fun x2_54 =>
              m_laysTones_L11 k122 n x1_51 x2_54 s53) fun j55 =>
          if i32 x3_45 = 0 then
            j55 x1_43 x2_44 s50
          else
            bnd (up s50 68 0 ((s50 68 0) + 1)) fun s57 =>
            j55 x1_43 x2_44 s57)
        FU x1_5 x2_6 x3_12 x4_13 s11
noncomputable def m_laysTones (a1 : Int) (s0 : MS) : Option (Int × MS) :=
  bnd (up s0 68 0 0) fun s2 =>
  Option.bind (m_putsAside s2) fun z3 =>
  bnd 0 fun x2_4 =>
  m_laysTones_L11
    (fun (s58 : MS) =>
      Option.bind (m_takesBack s58) fun z59 =>
      some (0, z59.2))
    FU a1 x2_4 z3.2
theorem wm_laysTones_L37 {p : Program} {l : Launch} {e : Env} {s : State} {m : MethodId} {args : Array Value} {below : List Frame} {meth : Method} {c : Code} {D : MD} {o : Nat} {res : Int × MS} {k91 : Int → Int → Int → MS → Option (Int × MS)} (hC : GC p s m args meth c cX8_laysTones RX8 5 none (MK D)) (hk91 : ∀ (x1_19 : Int) (x2_20 : Int) (x3_21 : Int) (s22 : MS), k91 x1_19 x2_20 x3_21 s22 = some res → GW p l e (rmd 8) s m args below meth c 5 (mAd o) (MRp D o) (MK D) 0 res s22 91 [(0, .ref o), (1, J x1_19), (2, J x2_20), (3, J x3_21)] []) : ∀ (n : Nat) (x1_14 : Int) (x2_15 : Int) (x3_16 : Int) (x4_17 : Int) (s18 : MS), m_laysTones_L37 k91 n x1_14 x2_15 x3_16 x4_17 s18 = some res → GW p l e (rmd 8) s m args below meth c 5 (mAd o) (MRp D o) (MK D) 0 res s18 37 [(0, .ref o), (1, J x1_14), (2, J x2_15), (3, J x3_16), (4, J x4_17)] [] := by
  intro n
  induction n with
  | zero =>
    intro x1_14 x2_15 x3_16 x4_17 s18 h
    cases h
  | succ n ih =>
    intro x1_14 x2_15 x3_16 x4_17 s18 h
    rw [m_laysTones_L37] at h
    refine gw_iload 37 4 hC dX8_laysTones_37 rfl ?_
    refine gw_bipush 39 hC dX8_laysTones_39 (by decide) ?_
    refine gw_icmp_gt 41 91 hC dX8_laysTones_41 (by decide) (fun c23 => ?_) (fun c23 => ?_)
    · replace h := if_t h c23
      refine gw_sub [0, 1, 2, 3] rfl ?_
      exact hk91 _ _ _ _ h
    · replace h := if_f h c23
      refine gw_aload_n 44 0 hC dX8_laysTones_44 rfl ?_
      obtain ⟨z24, ez24, h⟩ := opt_e h
      refine gw_callV (As := []) (rest := []) (st' := []) 45 0 hC (met_dayGoes ez24 l) (lw_V q2471 q2473 qs127 q161 q2474) (by decide +kernel) (by decide) (m_recv hC) rfl rfl (Nat.le_of_ble_eq_true rfl) dX8_laysTones_45 rfl ?_
      refine gw_iload_n 48 3 hC dX8_laysTones_48 rfl ?_
      obtain ⟨j34, ej34, h⟩ := bnd_e h
      have hj34 : ∀ (x1_25 : Int) (x2_26 : Int) (x4_27 : Int) (w28 : Int) (s29 : MS), j34 x1_25 x2_26 x4_27 w28 s29 = some res → GW p l e (rmd 8) s m args below meth c 5 (mAd o) (MRp D o) (MK D) 0 res s29 66 [(0, .ref o), (1, J x1_25), (2, J x2_26), (4, J x4_27)] [J w28] := by
        clear h
        intro x1_25 x2_26 x4_27 w28 s29 h
        subst ej34
        refine gw_istore_n 66 [(3, J w28), (0, .ref o), (1, J x1_25), (2, J x2_26), (4, J x4_27)] hC dX8_laysTones_66 (by decide) rfl rfl ?_
        refine gw_aload_n 67 1 hC dX8_laysTones_67 rfl ?_
        refine mg_66 68 hC dX8_laysTones_68 ?_
        refine gw_bipush 71 hC dX8_laysTones_71 (by decide) ?_
        refine gw_iload_n 73 3 hC dX8_laysTones_73 rfl ?_
        refine gw_imul 74 hC dX8_laysTones_74 ?_
        refine gw_iload 75 4 hC dX8_laysTones_75 rfl ?_
        refine gw_iadd 77 hC dX8_laysTones_77 ?_
        refine gw_aload_n 78 1 hC dX8_laysTones_78 rfl ?_
        refine mg_62 79 hC dX8_laysTones_79 ?_
        refine gw_iload_n 82 2 hC dX8_laysTones_82 rfl ?_
        obtain ⟨g30, h⟩ := gd_e h
        refine m_iald 83 62 hC (by decide) rfl g30 dX8_laysTones_83 ?_
        obtain ⟨g31, h⟩ := gd_e h
        obtain ⟨s32, es32, h⟩ := bnd_e h
        refine m_iast 84 66 hC (MIn_self o) (by decide) rfl g31 es32 dX8_laysTones_84 ?_
        obtain ⟨x4_33, ex4_33, h⟩ := bnd_e h
        refine gw_iinc 85 4 [(4, J x4_33), (3, J w28), (0, .ref o), (1, J x1_25), (2, J x2_26)] hC dX8_laysTones_85 rfl ex4_33 (by decide) rfl ?_
        refine gw_goto 88 37 hC dX8_laysTones_88 (by decide) ?_
        refine gw_sub [2, 3, 4, 1, 0] rfl ?_
        exact ih _ _ _ _ _ h
      obtain ⟨j39, ej39, h⟩ := bnd_e h
      have hj39 : ∀ (x1_35 : Int) (x2_36 : Int) (x4_37 : Int) (s38 : MS), j39 x1_35 x2_36 x4_37 s38 = some res → GW p l e (rmd 8) s m args below meth c 5 (mAd o) (MRp D o) (MK D) 0 res s38 65 [(0, .ref o), (1, J x1_35), (2, J x2_36), (4, J x4_37)] [] := by
        clear h
        intro x1_35 x2_36 x4_37 s38 h
        subst ej39
        refine gw_iconst 65 hC dX8_laysTones_65 ?_
        refine gw_sub [0, 1, 2, 3] rfl ?_
        exact hj34 _ _ _ _ _ h
      refine gw_if_eq 49 65 hC dX8_laysTones_49 (by decide) (fun c40 => ?_) (fun c40 => ?_)
      · replace h := if_t h c40
        refine gw_sub [0, 1, 2, 4] rfl ?_
        exact hj39 _ _ _ _ h
      · replace h := if_f h c40
        refine gw_aload_n 52 0 hC dX8_laysTones_52 rfl ?_
        refine gw_iload 53 4 hC dX8_laysTones_53 rfl ?_
        obtain ⟨z41, ez41, h⟩ := opt_e h
        refine gw_callV (As := [J x4_17]) (rest := []) (st' := [J z41.1]) 55 1 hC (met_isAsSeen ez41 l) (lw_V q2516 q2518 qs134 q161 q2519) (by decide +kernel) (by decide) (m_recv hC) rfl rfl (Nat.le_of_ble_eq_true rfl) dX8_laysTones_55 rfl ?_
        refine gw_if_eq 58 65 hC dX8_laysTones_58 (by decide) (fun c42 => ?_) (fun c42 => ?_)
        · replace h := if_t h c42
          refine gw_sub [0, 1, 2, 4] rfl ?_
          exact hj39 _ _ _ _ h
        · replace h := if_f h c42
          refine gw_iconst 61 hC dX8_laysTones_61 ?_
          refine gw_goto 62 66 hC dX8_laysTones_62 (by decide) ?_
          refine gw_sub [0, 1, 2, 4] rfl ?_
          exact hj34 _ _ _ _ _ h
theorem wm_laysTones_L11 {p : Program} {l : Launch} {e : Env} {s : State} {m : MethodId} {args : Array Value} {below : List Frame} {meth : Method} {c : Code} {D : MD} {o : Nat} {res : Int × MS} {k122 : MS → Option (Int × MS)} (hC : GC p s m args meth c cX8_laysTones RX8 5 none (MK D)) (hk122 : ∀ (s8 : MS), k122 s8 = some res → GW p l e (rmd 8) s m args below meth c 5 (mAd o) (MRp D o) (MK D) 0 res s8 122 [(0, .ref o)] []) : ∀ (n : Nat) (x1_5 : Int) (x2_6 : Int) (s7 : MS), m_laysTones_L11 k122 n x1_5 x2_6 s7 = some res → GW p l e (rmd 8) s m args below meth c 5 (mAd o) (MRp D o) (MK D) 0 res s7 11 [(0, .ref o), (1, J x1_5), (2, J x2_6)] [] := by
  intro n
  induction n with
  | zero =>
    intro x1_5 x2_6 s7 h
    cases h
  | succ n ih =>
    intro x1_5 x2_6 s7 h
    rw [m_laysTones_L11] at h
    refine gw_iload_n 11 2 hC dX8_laysTones_11 rfl ?_
    refine gw_bipush 12 hC dX8_laysTones_12 (by decide) ?_
    refine gw_icmp_ge 14 122 hC dX8_laysTones_14 (by decide) (fun c9 => ?_) (fun c9 => ?_)
    · replace h := if_t h c9
      refine gw_sub [0] rfl ?_
      exact hk122 _ h
    · replace h := if_f h c9
      refine gw_aload_n 17 0 hC dX8_laysTones_17 rfl ?_
      refine mg_48 18 hC dX8_laysTones_18 ?_
      refine gw_bipush 21 hC dX8_laysTones_21 (by decide) ?_
      refine gw_bipush 23 hC dX8_laysTones_23 (by decide) ?_
      refine gw_iload_n 25 1 hC dX8_laysTones_25 rfl ?_
      refine gw_imul 26 hC dX8_laysTones_26 ?_
      refine gw_iadd 27 hC dX8_laysTones_27 ?_
      refine gw_iconst 28 hC dX8_laysTones_28 ?_
      refine gw_iadd 29 hC dX8_laysTones_29 ?_
      refine gw_iload_n 30 2 hC dX8_laysTones_30 rfl ?_
      obtain ⟨g10, h⟩ := gd_e h
      obtain ⟨s11, es11, h⟩ := bnd_e h
      refine m_iast 31 48 hC (MIn_self o) (by decide) rfl g10 es11 dX8_laysTones_31 ?_
      refine gw_iconst 32 hC dX8_laysTones_32 ?_
      obtain ⟨x3_12, ex3_12, h⟩ := bnd_e h
      refine gw_istore_n 33 [(3, J x3_12), (0, .ref o), (1, J x1_5), (2, J x2_6)] hC dX8_laysTones_33 (by decide) ex3_12 rfl ?_
      refine gw_iconst 34 hC dX8_laysTones_34 ?_
      obtain ⟨x4_13, ex4_13, h⟩ := bnd_e h
      refine gw_istore 35 [(4, J x4_13), (3, J x3_12), (0, .ref o), (1, J x1_5), (2, J x2_6)] hC dX8_laysTones_35 (by decide) ex4_13 rfl ?_
      refine gw_sub [2, 3, 4, 1, 0] rfl ?_
      refine wm_laysTones_L37 hC (fun x1_43 x2_44 x3_45 s46 h => ?_) FU _ _ _ _ _ h
      · refine gw_aload_n 91 0 hC dX8_laysTones_91 rfl ?_
        obtain ⟨z47, ez47, h⟩ := opt_e h
        refine gw_callV (As := []) (rest := []) (st' := []) 92 0 hC (met_triesAnew ez47 l) (lw_V q2450 q2452 qs123 q161 q2453) (by decide +kernel) (by decide) (m_recv hC) rfl rfl (Nat.le_of_ble_eq_true rfl) dX8_laysTones_92 rfl ?_
        refine gw_aload_n 95 0 hC dX8_laysTones_95 rfl ?_
        refine mg_67 96 hC dX8_laysTones_96 ?_
        refine gw_iload_n 99 2 hC dX8_laysTones_99 rfl ?_
        refine gw_iload_n 100 3 hC dX8_laysTones_100 rfl ?_
        obtain ⟨g48, h⟩ := gd_e h
        obtain ⟨g49, h⟩ := gd_e h
        obtain ⟨s50, es50, h⟩ := bnd_e h
        refine m_zast 101 67 hC (MIn_self o) (by decide) rfl g48 g49 es50 dX8_laysTones_101 ?_
        refine gw_iload_n 102 3 hC dX8_laysTones_102 rfl ?_
        obtain ⟨j55, ej55, h⟩ := bnd_e h
        have hj55 : ∀ (x1_51 : Int) (x2_52 : Int) (s53 : MS), j55 x1_51 x2_52 s53 = some res → GW p l e (rmd 8) s m args below meth c 5 (mAd o) (MRp D o) (MK D) 0 res s53 116 [(0, .ref o), (1, J x1_51), (2, J x2_52)] [] := by
          clear h
          intro x1_51 x2_52 s53 h
          subst ej55
          obtain ⟨x2_54, ex2_54, h⟩ := bnd_e h
          refine gw_iinc 116 2 [(2, J x2_54), (0, .ref o), (1, J x1_51)] hC dX8_laysTones_116 rfl ex2_54 (by decide) rfl ?_
          refine gw_goto 119 11 hC dX8_laysTones_119 (by decide) ?_
          refine gw_sub [1, 2, 0] rfl ?_
          exact ih _ _ _ h
        refine gw_if_eq 103 116 hC dX8_laysTones_103 (by decide) (fun c56 => ?_) (fun c56 => ?_)
        · replace h := if_t h c56
          refine gw_sub [0, 1, 2] rfl ?_
          exact hj55 _ _ _ h
        · replace h := if_f h c56
          refine gw_aload_n 106 0 hC dX8_laysTones_106 rfl ?_
          refine gw_dup 107 hC dX8_laysTones_107 rfl ?_
          refine mg_68 108 hC dX8_laysTones_108 ?_
          refine gw_iconst 111 hC dX8_laysTones_111 ?_
          refine gw_iadd 112 hC dX8_laysTones_112 ?_
          obtain ⟨s57, es57, h⟩ := bnd_e h
          refine mp_68 113 hC (MIn_self o) es57 dX8_laysTones_113 ?_
          refine gw_sub [0, 1, 2] rfl ?_
          exact hj55 _ _ _ h
theorem met_laysTones {D : MD} {o : Nat} {a1 : Int} {s0 : MS} {res : Int × MS} (h : m_laysTones a1 s0 = some res) (l : Launch) : GMet l yX8_laysTones cX8_laysTones 5 none 8 (MRp D o) (MK D) (mAd o) [.ref o, J a1] s0 0 res := by
  refine GMet.of [(0, .ref o), (1, J a1)] (by decide) (MK_moved D) (Nat.le_of_ble_eq_true rfl) rfl ?_
  intro p e s m args below meth c hC
  have hC : GC p s m args meth c cX8_laysTones RX8 5 none (MK D) := hC
  unfold m_laysTones at h
  refine gw_aload_n 0 0 hC dX8_laysTones_0 rfl ?_
  refine gw_iconst 1 hC dX8_laysTones_1 ?_
  obtain ⟨s2, es2, h⟩ := bnd_e h
  refine mp_68 2 hC (MIn_self o) es2 dX8_laysTones_2 ?_
  refine gw_aload_n 5 0 hC dX8_laysTones_5 rfl ?_
  obtain ⟨z3, ez3, h⟩ := opt_e h
  refine gw_callV (As := []) (rest := []) (st' := []) 6 0 hC (met_putsAside ez3 l) (lw_V q2446 q2448 qs122 q161 q2449) (by decide +kernel) (by decide) (m_recv hC) rfl rfl (Nat.le_of_ble_eq_true rfl) dX8_laysTones_6 rfl ?_
  refine gw_iconst 9 hC dX8_laysTones_9 ?_
  obtain ⟨x2_4, ex2_4, h⟩ := bnd_e h
  refine gw_istore_n 10 [(2, J x2_4), (0, .ref o), (1, J a1)] hC dX8_laysTones_10 (by decide) ex2_4 rfl ?_
  refine gw_sub [1, 2, 0] rfl ?_
  refine wm_laysTones_L11 hC (fun s58 h => ?_) FU _ _ _ h
  · refine gw_aload_n 122 0 hC dX8_laysTones_122 rfl ?_
    obtain ⟨z59, ez59, h⟩ := opt_e h
    refine gw_callV (As := []) (rest := []) (st' := []) 123 0 hC (met_takesBack ez59 l) (lw_V q2454 q2456 qs124 q161 q2457) (by decide +kernel) (by decide) (m_recv hC) rfl rfl (Nat.le_of_ble_eq_true rfl) dX8_laysTones_123 rfl ?_
    exact gw_vret 126 hC dX8_laysTones_126 h
/-! tones(I)I -/
noncomputable def m_tones_L19 (k46 : Int → MS → Option (Int × MS)) : Nat → Int → Int → MS → Option (Int × MS)
  | 0, _, _, _ => none
  | n + 1, x2_7, x3_8, s9 =>
    if i32 10 ≤ i32 x3_8 then
      k46 x2_7 s9
    else
      gd (ok 10 x3_8) <|
      bnd (fun (x2_14 : Int) (x3_15 : Int) (s16 : MS) =>
          bnd (x3_15 + 1) fun x3_17 =>
          m_tones_L19 k46 n x2_14 x3_17 s16) fun j18 =>
      if i32 (s9 67 (i32 x3_8)) = 0 then
        j18 x2_7 x3_8 s9
      else
        bnd (ior x2_7 (ishl 1 x3_8)) fun x2_20 =>
        j18 x2_20 x3_8 s9
noncomputable def m_tones (a1 : Int) (s0 : MS) : Option (Int × MS) :=
  Option.bind (m_isSaying a1 s0) fun z2 =>
  if i32 z2.1 = 0 then
    some ((-1), z2.2)
  else
    Option.bind (m_laysTones a1 z2.2) fun z4 =>
    bnd 0 fun x2_5 =>
    bnd 0 fun x3_6 =>
    m_tones_L19
      (fun (x2_21 : Int) (s22 : MS) =>
        some (x2_21, s22))
      FU x2_5 x3_6 z4.2
theorem wm_tones_L19 {p : Program} {l : Launch} {e : Env} {s : State} {m : MethodId} {args : Array Value} {below : List Frame} {meth : Method} {c : Code} {D : MD} {o : Nat} {res : Int × MS} {k46 : Int → MS → Option (Int × MS)} (hC : GC p s m args meth c cX8_tones RX8 4 (some .int) (MK D)) (hk46 : ∀ (x2_10 : Int) (s11 : MS), k46 x2_10 s11 = some res → GW p l e (rmd 9) s m args below meth c 4 (mAd o) (MRp D o) (MK D) 1 res s11 46 [(2, J x2_10)] []) : ∀ (n : Nat) (x2_7 : Int) (x3_8 : Int) (s9 : MS), m_tones_L19 k46 n x2_7 x3_8 s9 = some res → GW p l e (rmd 9) s m args below meth c 4 (mAd o) (MRp D o) (MK D) 1 res s9 19 [(0, .ref o), (2, J x2_7), (3, J x3_8)] [] := by
  intro n
  induction n with
  | zero =>
    intro x2_7 x3_8 s9 h
    cases h
  | succ n ih =>
    intro x2_7 x3_8 s9 h
    rw [m_tones_L19] at h
    refine gw_iload_n 19 2 hC dX8_tones_19 rfl ?_
    refine gw_bipush 20 hC dX8_tones_20 (by decide) ?_
    refine gw_icmp_ge 22 46 hC dX8_tones_22 (by decide) (fun c12 => ?_) (fun c12 => ?_)
    · replace h := if_t h c12
      refine gw_sub [1] rfl ?_
      exact hk46 _ _ h
    · replace h := if_f h c12
      refine gw_aload_n 25 0 hC dX8_tones_25 rfl ?_
      refine mg_67 26 hC dX8_tones_26 ?_
      refine gw_iload_n 29 2 hC dX8_tones_29 rfl ?_
      obtain ⟨g13, h⟩ := gd_e h
      refine m_zald 30 67 hC (by decide) rfl g13 dX8_tones_30 ?_
      obtain ⟨j18, ej18, h⟩ := bnd_e h
      have hj18 : ∀ (x2_14 : Int) (x3_15 : Int) (s16 : MS), j18 x2_14 x3_15 s16 = some res → GW p l e (rmd 9) s m args below meth c 4 (mAd o) (MRp D o) (MK D) 1 res s16 40 [(0, .ref o), (2, J x2_14), (3, J x3_15)] [] := by
        clear h
        intro x2_14 x3_15 s16 h
        subst ej18
        obtain ⟨x3_17, ex3_17, h⟩ := bnd_e h
        refine gw_iinc 40 2 [(3, J x3_17), (0, .ref o), (2, J x2_14)] hC dX8_tones_40 rfl ex3_17 (by decide) rfl ?_
        refine gw_goto 43 19 hC dX8_tones_43 (by decide) ?_
        refine gw_sub [1, 2, 0] rfl ?_
        exact ih _ _ _ h
      refine gw_if_eq 31 40 hC dX8_tones_31 (by decide) (fun c19 => ?_) (fun c19 => ?_)
      · replace h := if_t h c19
        refine gw_sub [0, 1, 2] rfl ?_
        exact hj18 _ _ _ h
      · replace h := if_f h c19
        refine gw_iload_n 34 1 hC dX8_tones_34 rfl ?_
        refine gw_iconst 35 hC dX8_tones_35 ?_
        refine gw_iload_n 36 2 hC dX8_tones_36 rfl ?_
        refine gw_ishl 37 hC dX8_tones_37 ?_
        refine gw_ior 38 hC dX8_tones_38 ?_
        obtain ⟨x2_20, ex2_20, h⟩ := bnd_e h
        refine gw_istore_n 39 [(2, J x2_20), (0, .ref o), (3, J x3_8)] hC dX8_tones_39 (by decide) ex2_20 rfl ?_
        refine gw_sub [1, 0, 2] rfl ?_
        exact hj18 _ _ _ h
theorem met_tones {D : MD} {o : Nat} {a1 : Int} {s0 : MS} {res : Int × MS} (h : m_tones a1 s0 = some res) (l : Launch) : GMet l yX8_tones cX8_tones 4 (some .int) 9 (MRp D o) (MK D) (mAd o) [.ref o, J a1] s0 1 res := by
  refine GMet.of [(0, .ref o), (1, J a1)] (by decide) (MK_moved D) (Nat.le_of_ble_eq_true rfl) rfl ?_
  intro p e s m args below meth c hC
  have hC : GC p s m args meth c cX8_tones RX8 4 (some .int) (MK D) := hC
  unfold m_tones at h
  refine gw_aload_n 0 0 hC dX8_tones_0 rfl ?_
  refine gw_iload_n 1 1 hC dX8_tones_1 rfl ?_
  obtain ⟨z2, ez2, h⟩ := opt_e h
  refine gw_callV (As := [J a1]) (rest := []) (st' := [J z2.1]) 2 1 hC (met_isSaying ez2 l) (lw_V q2295 q2297 qs98 q161 q2298) (by decide +kernel) (by decide) (m_recv hC) rfl rfl (Nat.le_of_ble_eq_true rfl) dX8_tones_2 rfl ?_
  refine gw_if_ne 5 10 hC dX8_tones_5 (by decide) (fun c3 => ?_) (fun c3 => ?_)
  · replace h := if_f h c3
    refine gw_aload_n 10 0 hC dX8_tones_10 rfl ?_
    refine gw_iload_n 11 1 hC dX8_tones_11 rfl ?_
    obtain ⟨z4, ez4, h⟩ := opt_e h
    refine gw_callV (As := [J a1]) (rest := []) (st' := []) 12 1 hC (met_laysTones ez4 l) (lw_V q2512 q2514 qs133 q161 q2515) (by decide +kernel) (by decide) (m_recv hC) rfl rfl (Nat.le_of_ble_eq_true rfl) dX8_tones_12 rfl ?_
    refine gw_iconst 15 hC dX8_tones_15 ?_
    obtain ⟨x2_5, ex2_5, h⟩ := bnd_e h
    refine gw_istore_n 16 [(2, J x2_5), (0, .ref o), (1, J a1)] hC dX8_tones_16 (by decide) ex2_5 rfl ?_
    refine gw_iconst 17 hC dX8_tones_17 ?_
    obtain ⟨x3_6, ex3_6, h⟩ := bnd_e h
    refine gw_istore_n 18 [(3, J x3_6), (2, J x2_5), (0, .ref o), (1, J a1)] hC dX8_tones_18 (by decide) ex3_6 rfl ?_
    refine gw_sub [2, 1, 0] rfl ?_
    refine wm_tones_L19 hC (fun x2_21 s22 h => ?_) FU _ _ _ h
    · refine gw_iload_n 46 0 hC dX8_tones_46 rfl ?_
      exact gw_iret 47 hC dX8_tones_47 h
  · replace h := if_t h c3
    refine gw_iconst 8 hC dX8_tones_8 ?_
    exact gw_iret 9 hC dX8_tones_9 h
/-! mostAlike(I)I -/
noncomputable def m_mostAlike_L28 (k80 : Int → Int → Int → Int → MS → Option (Int × MS)) : Nat → Int → Int → Int → Int → Int → MS → Option (Int × MS)
  | 0, _, _, _, _, _, _ => none
  | n + 1, x1_21, x2_22, x3_23, x4_24, x5_25, s26 =>
    if i32 10 ≤ i32 x5_25 then
      k80 x1_21 x2_22 x3_23 x4_24 s26
    else
      gd (ok 10 x5_25) <|
      bnd (fun (x1_34 : Int) (x2_35 : Int) (x3_36 : Int) (x4_37 : Int) (x5_38 : Int) (s39 : MS) =>
          bnd (x5_38 + 1) fun x5_40 =>
          m_mostAlike_L28 k80 n x1_34 x2_35 x3_36 x4_37 x5_40 s39) fun j41 =>
      if i32 (s26 67 (i32 x5_25)) = 0 then
        j41 x1_21 x2_22 x3_23 x4_24 x5_25 s26
      else
        gd (ok 210 ((21 * x3_23) + x1_21)) <|
        gd (ok 210 ((21 * x5_25) + x1_21)) <|
        if i32 (s26 66 (i32 ((21 * x3_23) + x1_21))) = i32 (s26 66 (i32 ((21 * x5_25) + x1_21))) then
          bnd (x4_24 + 1) fun x4_46 =>
          j41 x1_21 x2_22 x3_23 x4_46 x5_25 s26
        else
          j41 x1_21 x2_22 x3_23 x4_24 x5_25 s26
noncomputable def m_mostAlike_L4 (k95 : Int → MS → Option (Int × MS)) : Nat → Int → Int → Int → MS → Option (Int × MS)
  | 0, _, _, _, _ => none
  | n + 1, x1_4, x2_5, x3_6, s7 =>
    if i32 10 ≤ i32 x3_6 then
      k95 x2_5 s7
    else
      gd (ok 10 x3_6) <|
      bnd (fun (x1_12 : Int) (x2_13 : Int) (x3_14 : Int) (s15 : MS) =>
          bnd (x3_14 + 1) fun x3_16 =>
          m_mostAlike_L4 k95 n x1_12 x2_13 x3_16 s15) fun j17 =>
      if i32 (s7 67 (i32 x3_6)) = 0 then
        j17 x1_4 x2_5 x3_6 s7
      else
        bnd 0 fun x4_19 =>
        bnd 0 fun x5_20 =>
        m_mostAlike_L28
          (fun (x1_47 : Int) (x2_48 : Int) (x3_49 : Int) (x4_50 : Int) (s51 : MS) =>
            if i32 x4_50 ≤ i32 x2_48 then
              j17 x1_47 x2_48 x3_49 s51
            else
              j17 x1_47 x4_50 x3_49 s51)
          FU x1_4 x2_5 x3_6 x4_19 x5_20 s7
noncomputable def m_mostAlike (a1 : Int) (s0 : MS) : Option (Int × MS) :=
  bnd 0 fun x2_2 =>
  bnd 0 fun x3_3 =>
  m_mostAlike_L4
    (fun (x2_53 : Int) (s54 : MS) =>
      some (x2_53, s54))
    FU a1 x2_2 x3_3 s0
theorem wm_mostAlike_L28 {p : Program} {l : Launch} {e : Env} {s : State} {m : MethodId} {args : Array Value} {below : List Frame} {meth : Method} {c : Code} {D : MD} {o : Nat} {res : Int × MS} {k80 : Int → Int → Int → Int → MS → Option (Int × MS)} (hC : GC p s m args meth c cX8_mostAlike RX8 6 (some .int) (MK D)) (hk80 : ∀ (x1_27 : Int) (x2_28 : Int) (x3_29 : Int) (x4_30 : Int) (s31 : MS), k80 x1_27 x2_28 x3_29 x4_30 s31 = some res → GW p l e (rmd 1) s m args below meth c 6 (mAd o) (MRp D o) (MK D) 1 res s31 80 [(0, .ref o), (1, J x1_27), (2, J x2_28), (3, J x3_29), (4, J x4_30)] []) : ∀ (n : Nat) (x1_21 : Int) (x2_22 : Int) (x3_23 : Int) (x4_24 : Int) (x5_25 : Int) (s26 : MS), m_mostAlike_L28 k80 n x1_21 x2_22 x3_23 x4_24 x5_25 s26 = some res → GW p l e (rmd 1) s m args below meth c 6 (mAd o) (MRp D o) (MK D) 1 res s26 28 [(0, .ref o), (1, J x1_21), (2, J x2_22), (3, J x3_23), (4, J x4_24), (5, J x5_25)] [] := by
  intro n
  induction n with
  | zero =>
    intro x1_21 x2_22 x3_23 x4_24 x5_25 s26 h
    cases h
  | succ n ih =>
    intro x1_21 x2_22 x3_23 x4_24 x5_25 s26 h
    rw [m_mostAlike_L28] at h
    refine gw_iload 28 5 hC dX8_mostAlike_28 rfl ?_
    refine gw_bipush 30 hC dX8_mostAlike_30 (by decide) ?_
    refine gw_icmp_ge 32 80 hC dX8_mostAlike_32 (by decide) (fun c32 => ?_) (fun c32 => ?_)
    · replace h := if_t h c32
      refine gw_sub [0, 1, 2, 3, 4] rfl ?_
      exact hk80 _ _ _ _ _ h
    · replace h := if_f h c32
      refine gw_aload_n 35 0 hC dX8_mostAlike_35 rfl ?_
      refine mg_67 36 hC dX8_mostAlike_36 ?_
      refine gw_iload 39 5 hC dX8_mostAlike_39 rfl ?_
      obtain ⟨g33, h⟩ := gd_e h
      refine m_zald 41 67 hC (by decide) rfl g33 dX8_mostAlike_41 ?_
      obtain ⟨j41, ej41, h⟩ := bnd_e h
      have hj41 : ∀ (x1_34 : Int) (x2_35 : Int) (x3_36 : Int) (x4_37 : Int) (x5_38 : Int) (s39 : MS), j41 x1_34 x2_35 x3_36 x4_37 x5_38 s39 = some res → GW p l e (rmd 1) s m args below meth c 6 (mAd o) (MRp D o) (MK D) 1 res s39 74 [(0, .ref o), (1, J x1_34), (2, J x2_35), (3, J x3_36), (4, J x4_37), (5, J x5_38)] [] := by
        clear h
        intro x1_34 x2_35 x3_36 x4_37 x5_38 s39 h
        subst ej41
        obtain ⟨x5_40, ex5_40, h⟩ := bnd_e h
        refine gw_iinc 74 5 [(5, J x5_40), (0, .ref o), (1, J x1_34), (2, J x2_35), (3, J x3_36), (4, J x4_37)] hC dX8_mostAlike_74 rfl ex5_40 (by decide) rfl ?_
        refine gw_goto 77 28 hC dX8_mostAlike_77 (by decide) ?_
        refine gw_sub [1, 2, 3, 4, 5, 0] rfl ?_
        exact ih _ _ _ _ _ _ h
      refine gw_if_eq 42 74 hC dX8_mostAlike_42 (by decide) (fun c42 => ?_) (fun c42 => ?_)
      · replace h := if_t h c42
        refine gw_sub [0, 1, 2, 3, 4, 5] rfl ?_
        exact hj41 _ _ _ _ _ _ h
      · replace h := if_f h c42
        refine gw_aload_n 45 0 hC dX8_mostAlike_45 rfl ?_
        refine mg_66 46 hC dX8_mostAlike_46 ?_
        refine gw_bipush 49 hC dX8_mostAlike_49 (by decide) ?_
        refine gw_iload_n 51 3 hC dX8_mostAlike_51 rfl ?_
        refine gw_imul 52 hC dX8_mostAlike_52 ?_
        refine gw_iload_n 53 1 hC dX8_mostAlike_53 rfl ?_
        refine gw_iadd 54 hC dX8_mostAlike_54 ?_
        obtain ⟨g43, h⟩ := gd_e h
        refine m_iald 55 66 hC (by decide) rfl g43 dX8_mostAlike_55 ?_
        refine gw_aload_n 56 0 hC dX8_mostAlike_56 rfl ?_
        refine mg_66 57 hC dX8_mostAlike_57 ?_
        refine gw_bipush 60 hC dX8_mostAlike_60 (by decide) ?_
        refine gw_iload 62 5 hC dX8_mostAlike_62 rfl ?_
        refine gw_imul 64 hC dX8_mostAlike_64 ?_
        refine gw_iload_n 65 1 hC dX8_mostAlike_65 rfl ?_
        refine gw_iadd 66 hC dX8_mostAlike_66 ?_
        obtain ⟨g44, h⟩ := gd_e h
        refine m_iald 67 66 hC (by decide) rfl g44 dX8_mostAlike_67 ?_
        refine gw_icmp_ne 68 74 hC dX8_mostAlike_68 (by decide) (fun c45 => ?_) (fun c45 => ?_)
        · replace h := if_f h c45
          refine gw_sub [0, 1, 2, 3, 4, 5] rfl ?_
          exact hj41 _ _ _ _ _ _ h
        · replace h := if_t h c45
          obtain ⟨x4_46, ex4_46, h⟩ := bnd_e h
          refine gw_iinc 71 4 [(4, J x4_46), (0, .ref o), (1, J x1_21), (2, J x2_22), (3, J x3_23), (5, J x5_25)] hC dX8_mostAlike_71 rfl ex4_46 (by decide) rfl ?_
          refine gw_sub [1, 2, 3, 4, 0, 5] rfl ?_
          exact hj41 _ _ _ _ _ _ h
theorem wm_mostAlike_L4 {p : Program} {l : Launch} {e : Env} {s : State} {m : MethodId} {args : Array Value} {below : List Frame} {meth : Method} {c : Code} {D : MD} {o : Nat} {res : Int × MS} {k95 : Int → MS → Option (Int × MS)} (hC : GC p s m args meth c cX8_mostAlike RX8 6 (some .int) (MK D)) (hk95 : ∀ (x2_8 : Int) (s9 : MS), k95 x2_8 s9 = some res → GW p l e (rmd 1) s m args below meth c 6 (mAd o) (MRp D o) (MK D) 1 res s9 95 [(2, J x2_8)] []) : ∀ (n : Nat) (x1_4 : Int) (x2_5 : Int) (x3_6 : Int) (s7 : MS), m_mostAlike_L4 k95 n x1_4 x2_5 x3_6 s7 = some res → GW p l e (rmd 1) s m args below meth c 6 (mAd o) (MRp D o) (MK D) 1 res s7 4 [(0, .ref o), (1, J x1_4), (2, J x2_5), (3, J x3_6)] [] := by
  intro n
  induction n with
  | zero =>
    intro x1_4 x2_5 x3_6 s7 h
    cases h
  | succ n ih =>
    intro x1_4 x2_5 x3_6 s7 h
    rw [m_mostAlike_L4] at h
    refine gw_iload_n 4 3 hC dX8_mostAlike_4 rfl ?_
    refine gw_bipush 5 hC dX8_mostAlike_5 (by decide) ?_
    refine gw_icmp_ge 7 95 hC dX8_mostAlike_7 (by decide) (fun c10 => ?_) (fun c10 => ?_)
    · replace h := if_t h c10
      refine gw_sub [2] rfl ?_
      exact hk95 _ _ h
    · replace h := if_f h c10
      refine gw_aload_n 10 0 hC dX8_mostAlike_10 rfl ?_
      refine mg_67 11 hC dX8_mostAlike_11 ?_
      refine gw_iload_n 14 3 hC dX8_mostAlike_14 rfl ?_
      obtain ⟨g11, h⟩ := gd_e h
      refine m_zald 15 67 hC (by decide) rfl g11 dX8_mostAlike_15 ?_
      obtain ⟨j17, ej17, h⟩ := bnd_e h
      have hj17 : ∀ (x1_12 : Int) (x2_13 : Int) (x3_14 : Int) (s15 : MS), j17 x1_12 x2_13 x3_14 s15 = some res → GW p l e (rmd 1) s m args below meth c 6 (mAd o) (MRp D o) (MK D) 1 res s15 89 [(0, .ref o), (1, J x1_12), (2, J x2_13), (3, J x3_14)] [] := by
        clear h
        intro x1_12 x2_13 x3_14 s15 h
        subst ej17
        obtain ⟨x3_16, ex3_16, h⟩ := bnd_e h
        refine gw_iinc 89 3 [(3, J x3_16), (0, .ref o), (1, J x1_12), (2, J x2_13)] hC dX8_mostAlike_89 rfl ex3_16 (by decide) rfl ?_
        refine gw_goto 92 4 hC dX8_mostAlike_92 (by decide) ?_
        refine gw_sub [1, 2, 3, 0] rfl ?_
        exact ih _ _ _ _ h
      refine gw_if_ne 16 22 hC dX8_mostAlike_16 (by decide) (fun c18 => ?_) (fun c18 => ?_)
      · replace h := if_f h c18
        refine gw_iconst 22 hC dX8_mostAlike_22 ?_
        obtain ⟨x4_19, ex4_19, h⟩ := bnd_e h
        refine gw_istore 23 [(4, J x4_19), (0, .ref o), (1, J x1_4), (2, J x2_5), (3, J x3_6)] hC dX8_mostAlike_23 (by decide) ex4_19 rfl ?_
        refine gw_iconst 25 hC dX8_mostAlike_25 ?_
        obtain ⟨x5_20, ex5_20, h⟩ := bnd_e h
        refine gw_istore 26 [(5, J x5_20), (4, J x4_19), (0, .ref o), (1, J x1_4), (2, J x2_5), (3, J x3_6)] hC dX8_mostAlike_26 (by decide) ex5_20 rfl ?_
        refine gw_sub [2, 3, 4, 5, 1, 0] rfl ?_
        refine wm_mostAlike_L28 hC (fun x1_47 x2_48 x3_49 x4_50 s51 h => ?_) FU _ _ _ _ _ _ h
        · refine gw_iload 80 4 hC dX8_mostAlike_80 rfl ?_
          refine gw_iload_n 82 2 hC dX8_mostAlike_82 rfl ?_
          refine gw_icmp_le 83 89 hC dX8_mostAlike_83 (by decide) (fun c52 => ?_) (fun c52 => ?_)
          · replace h := if_t h c52
            refine gw_sub [0, 1, 2, 3] rfl ?_
            exact hj17 _ _ _ _ h
          · replace h := if_f h c52
            refine gw_iload 86 4 hC dX8_mostAlike_86 rfl ?_
            refine gw_istore_n 88 [(2, J x4_50), (0, .ref o), (1, J x1_47), (3, J x3_49), (4, J x4_50)] hC dX8_mostAlike_88 (by decide) rfl rfl ?_
            refine gw_sub [1, 2, 0, 3] rfl ?_
            exact hj17 _ _ _ _ h
      · replace h := if_t h c18
        refine gw_goto 19 89 hC dX8_mostAlike_19 (by decide) ?_
        refine gw_sub [0, 1, 2, 3] rfl ?_
        exact hj17 _ _ _ _ h
theorem met_mostAlike {D : MD} {o : Nat} {a1 : Int} {s0 : MS} {res : Int × MS} (h : m_mostAlike a1 s0 = some res) (l : Launch) : GMet l yX8_mostAlike cX8_mostAlike 6 (some .int) 1 (MRp D o) (MK D) (mAd o) [.ref o, J a1] s0 1 res := by
  refine GMet.of [(0, .ref o), (1, J a1)] (by decide) (MK_moved D) (Nat.le_of_ble_eq_true rfl) rfl ?_
  intro p e s m args below meth c hC
  have hC : GC p s m args meth c cX8_mostAlike RX8 6 (some .int) (MK D) := hC
  unfold m_mostAlike at h
  refine gw_iconst 0 hC dX8_mostAlike_0 ?_
  obtain ⟨x2_2, ex2_2, h⟩ := bnd_e h
  refine gw_istore_n 1 [(2, J x2_2), (0, .ref o), (1, J a1)] hC dX8_mostAlike_1 (by decide) ex2_2 rfl ?_
  refine gw_iconst 2 hC dX8_mostAlike_2 ?_
  obtain ⟨x3_3, ex3_3, h⟩ := bnd_e h
  refine gw_istore_n 3 [(3, J x3_3), (2, J x2_2), (0, .ref o), (1, J a1)] hC dX8_mostAlike_3 (by decide) ex3_3 rfl ?_
  refine gw_sub [2, 3, 1, 0] rfl ?_
  refine wm_mostAlike_L4 hC (fun x2_53 s54 h => ?_) FU _ _ _ _ h
  · refine gw_iload_n 95 0 hC dX8_mostAlike_95 rfl ?_
    exact gw_iret 96 hC dX8_mostAlike_96 h
/-! tells(II)I -/
noncomputable def m_tells_L33 (k98 : Int → Int → Int → MS → Option (Int × MS)) : Nat → Int → Int → Int → Int → MS → Option (Int × MS)
  | 0, _, _, _, _, _ => none
  | n + 1, x2_11, x3_12, x4_13, x5_14, s15 =>
    if i32 (s15 68 0) ≤ 0 then
      k98 x2_11 x3_12 x4_13 s15
    else
      if i32 20 < i32 x5_14 then
        k98 x2_11 x3_12 x4_13 s15
      else
        gd (ok 219 0) <|
        if i32 999 ≤ i32 ((s15 48 (i32 0)) + x5_14) then
          k98 x2_11 x3_12 x4_13 s15
        else
          Option.bind (m_mostAlike x5_14 s15) fun z24 =>
          bnd z24.1 fun x6_25 =>
          bnd (fun (x2_26 : Int) (x3_27 : Int) (x4_28 : Int) (x5_29 : Int) (s30 : MS) =>
              bnd (x5_29 + 1) fun x5_31 =>
              m_tells_L33 k98 n x2_26 x3_27 x4_28 x5_31 s30) fun j32 =>
          bnd (fun (x2_33 : Int) (x5_34 : Int) (x6_35 : Int) (s36 : MS) =>
              j32 x2_33 x5_34 x6_35 x5_34 s36) fun j37 =>
          if i32 x3_12 = i32 (-1) then
            j37 x2_11 x5_14 x6_25 z24.2
          else
            if i32 x6_25 < i32 x4_13 then
              j37 x2_11 x5_14 x6_25 z24.2
            else
              j32 x2_11 x3_12 x4_13 x5_14 z24.2
noncomputable def m_tells (a1 : Int) (a2 : Int) (s0 : MS) : Option (Int × MS) :=
  Option.bind (m_isSaying a1 s0) fun z3 =>
  if i32 z3.1 = 0 then
    some ((-1), z3.2)
  else
    Option.bind (m_isIn (i32 a2) 0 1 z3.2) fun z5 =>
    if i32 z5.1 = 0 then
      some ((-1), z5.2)
    else
      Option.bind (m_laysTones a1 z5.2) fun z7 =>
      bnd (-1) fun x3_8 =>
      bnd 0 fun x4_9 =>
      bnd 0 fun x5_10 =>
      m_tells_L33
        (fun (x2_40 : Int) (x3_41 : Int) (x4_42 : Int) (s43 : MS) =>
          if i32 x3_41 = i32 (-1) then
            some ((-1), s43)
          else
            if i32 x2_40 = 0 then
              some (x3_41, s43)
            else
              some (x4_42, s43))
        FU a2 x3_8 x4_9 x5_10 z7.2
theorem wm_tells_L33 {p : Program} {l : Launch} {e : Env} {s : State} {m : MethodId} {args : Array Value} {below : List Frame} {meth : Method} {c : Code} {D : MD} {o : Nat} {res : Int × MS} {k98 : Int → Int → Int → MS → Option (Int × MS)} (hC : GC p s m args meth c cX8_tells RX8 7 (some .int) (MK D)) (hk98 : ∀ (x2_16 : Int) (x3_17 : Int) (x4_18 : Int) (s19 : MS), k98 x2_16 x3_17 x4_18 s19 = some res → GW p l e (rmd 9) s m args below meth c 7 (mAd o) (MRp D o) (MK D) 1 res s19 98 [(2, J x2_16), (3, J x3_17), (4, J x4_18)] []) : ∀ (n : Nat) (x2_11 : Int) (x3_12 : Int) (x4_13 : Int) (x5_14 : Int) (s15 : MS), m_tells_L33 k98 n x2_11 x3_12 x4_13 x5_14 s15 = some res → GW p l e (rmd 9) s m args below meth c 7 (mAd o) (MRp D o) (MK D) 1 res s15 33 [(0, .ref o), (2, J x2_11), (3, J x3_12), (4, J x4_13), (5, J x5_14)] [] := by
  intro n
  induction n with
  | zero =>
    intro x2_11 x3_12 x4_13 x5_14 s15 h
    cases h
  | succ n ih =>
    intro x2_11 x3_12 x4_13 x5_14 s15 h
    rw [m_tells_L33] at h
    refine gw_aload_n 33 0 hC dX8_tells_33 rfl ?_
    refine mg_68 34 hC dX8_tells_34 ?_
    refine gw_if_le 37 98 hC dX8_tells_37 (by decide) (fun c20 => ?_) (fun c20 => ?_)
    · replace h := if_t h c20
      refine gw_sub [1, 2, 3] rfl ?_
      exact hk98 _ _ _ _ h
    · replace h := if_f h c20
      refine gw_iload 40 4 hC dX8_tells_40 rfl ?_
      refine gw_bipush 42 hC dX8_tells_42 (by decide) ?_
      refine gw_icmp_gt 44 98 hC dX8_tells_44 (by decide) (fun c21 => ?_) (fun c21 => ?_)
      · replace h := if_t h c21
        refine gw_sub [1, 2, 3] rfl ?_
        exact hk98 _ _ _ _ h
      · replace h := if_f h c21
        refine gw_aload_n 47 0 hC dX8_tells_47 rfl ?_
        refine mg_48 48 hC dX8_tells_48 ?_
        refine gw_iconst 51 hC dX8_tells_51 ?_
        obtain ⟨g22, h⟩ := gd_e h
        refine m_iald 52 48 hC (by decide) rfl g22 dX8_tells_52 ?_
        refine gw_iload 53 4 hC dX8_tells_53 rfl ?_
        refine gw_iadd 55 hC dX8_tells_55 ?_
        refine gw_sipush 56 hC dX8_tells_56 (by decide) ?_
        refine gw_icmp_ge 59 98 hC dX8_tells_59 (by decide) (fun c23 => ?_) (fun c23 => ?_)
        · replace h := if_t h c23
          refine gw_sub [1, 2, 3] rfl ?_
          exact hk98 _ _ _ _ h
        · replace h := if_f h c23
          refine gw_aload_n 62 0 hC dX8_tells_62 rfl ?_
          refine gw_iload 63 4 hC dX8_tells_63 rfl ?_
          obtain ⟨z24, ez24, h⟩ := opt_e h
          refine gw_callV (As := [J x5_14]) (rest := []) (st' := [J z24.1]) 65 1 hC (met_mostAlike ez24 l) (lw_V q2524 q2526 qs135 q161 q2527) (by decide +kernel) (by decide) (m_recv hC) rfl rfl (Nat.le_of_ble_eq_true rfl) dX8_tells_65 rfl ?_
          obtain ⟨x6_25, ex6_25, h⟩ := bnd_e h
          refine gw_istore 68 [(6, J x6_25), (0, .ref o), (2, J x2_11), (3, J x3_12), (4, J x4_13), (5, J x5_14)] hC dX8_tells_68 (by decide) ex6_25 rfl ?_
          refine gw_iload_n 70 3 hC dX8_tells_70 rfl ?_
          refine gw_iconst 71 hC dX8_tells_71 ?_
          obtain ⟨j32, ej32, h⟩ := bnd_e h
          have hj32 : ∀ (x2_26 : Int) (x3_27 : Int) (x4_28 : Int) (x5_29 : Int) (s30 : MS), j32 x2_26 x3_27 x4_28 x5_29 s30 = some res → GW p l e (rmd 9) s m args below meth c 7 (mAd o) (MRp D o) (MK D) 1 res s30 92 [(0, .ref o), (2, J x2_26), (3, J x3_27), (4, J x4_28), (5, J x5_29)] [] := by
            clear h
            intro x2_26 x3_27 x4_28 x5_29 s30 h
            subst ej32
            obtain ⟨x5_31, ex5_31, h⟩ := bnd_e h
            refine gw_iinc 92 4 [(5, J x5_31), (0, .ref o), (2, J x2_26), (3, J x3_27), (4, J x4_28)] hC dX8_tells_92 rfl ex5_31 (by decide) rfl ?_
            refine gw_goto 95 33 hC dX8_tells_95 (by decide) ?_
            refine gw_sub [1, 2, 3, 4, 0] rfl ?_
            exact ih _ _ _ _ _ h
          obtain ⟨j37, ej37, h⟩ := bnd_e h
          have hj37 : ∀ (x2_33 : Int) (x5_34 : Int) (x6_35 : Int) (s36 : MS), j37 x2_33 x5_34 x6_35 s36 = some res → GW p l e (rmd 9) s m args below meth c 7 (mAd o) (MRp D o) (MK D) 1 res s36 85 [(0, .ref o), (2, J x2_33), (5, J x5_34), (6, J x6_35)] [] := by
            clear h
            intro x2_33 x5_34 x6_35 s36 h
            subst ej37
            refine gw_iload 85 2 hC dX8_tells_85 rfl ?_
            refine gw_istore_n 87 [(3, J x5_34), (0, .ref o), (2, J x2_33), (5, J x5_34), (6, J x6_35)] hC dX8_tells_87 (by decide) rfl rfl ?_
            refine gw_iload 88 4 hC dX8_tells_88 rfl ?_
            refine gw_istore 90 [(4, J x6_35), (3, J x5_34), (0, .ref o), (2, J x2_33), (5, J x5_34), (6, J x6_35)] hC dX8_tells_90 (by decide) rfl rfl ?_
            refine gw_sub [2, 3, 1, 0, 4] rfl ?_
            exact hj32 _ _ _ _ _ h
          refine gw_icmp_eq 72 85 hC dX8_tells_72 (by decide) (fun c38 => ?_) (fun c38 => ?_)
          · replace h := if_t h c38
            refine gw_sub [1, 2, 5, 0] rfl ?_
            exact hj37 _ _ _ _ h
          · replace h := if_f h c38
            refine gw_iload 75 0 hC dX8_tells_75 rfl ?_
            refine gw_iload 77 4 hC dX8_tells_77 rfl ?_
            refine gw_icmp_lt 79 85 hC dX8_tells_79 (by decide) (fun c39 => ?_) (fun c39 => ?_)
            · replace h := if_t h c39
              refine gw_sub [1, 2, 5, 0] rfl ?_
              exact hj37 _ _ _ _ h
            · replace h := if_f h c39
              refine gw_goto 82 92 hC dX8_tells_82 (by decide) ?_
              refine gw_sub [1, 2, 3, 4, 5] rfl ?_
              exact hj32 _ _ _ _ _ h
theorem met_tells {D : MD} {o : Nat} {a1 : Int} {a2 : Int} {s0 : MS} {res : Int × MS} (h : m_tells a1 a2 s0 = some res) (l : Launch) : GMet l yX8_tells cX8_tells 7 (some .int) 9 (MRp D o) (MK D) (mAd o) [.ref o, J a1, J a2] s0 1 res := by
  refine GMet.of [(0, .ref o), (1, J a1), (2, J a2)] (by decide) (MK_moved D) (Nat.le_of_ble_eq_true rfl) rfl ?_
  intro p e s m args below meth c hC
  have hC : GC p s m args meth c cX8_tells RX8 7 (some .int) (MK D) := hC
  unfold m_tells at h
  refine gw_aload_n 0 0 hC dX8_tells_0 rfl ?_
  refine gw_iload_n 1 1 hC dX8_tells_1 rfl ?_
  obtain ⟨z3, ez3, h⟩ := opt_e h
  refine gw_callV (As := [J a1]) (rest := []) (st' := [J z3.1]) 2 1 hC (met_isSaying ez3 l) (lw_V q2295 q2297 qs98 q161 q2298) (by decide +kernel) (by decide) (m_recv hC) rfl rfl (Nat.le_of_ble_eq_true rfl) dX8_tells_2 rfl ?_
  refine gw_if_eq 5 18 hC dX8_tells_5 (by decide) (fun c4 => ?_) (fun c4 => ?_)
  · replace h := if_t h c4
    refine gw_iconst 18 hC dX8_tells_18 ?_
    exact gw_iret 19 hC dX8_tells_19 h
  · replace h := if_f h c4
    refine gw_iload_n 8 2 hC dX8_tells_8 rfl ?_
    refine gw_i2l 9 hC dX8_tells_9 ?_
    refine gw_lconst (v := 0) 10 hC dX8_tells_10 (by decide) ?_
    refine gw_lconst (v := 1) 11 hC dX8_tells_11 (by decide) ?_
    obtain ⟨z5, ez5, h⟩ := opt_e h
    refine gw_callS (As := [Lg (i32 a2), Lg 0, Lg 1]) (rest := []) (st' := [J z5.1]) 12 3 hC (met_isIn ez5 l) (lw_S q2123 q2124 q161 q2125) (by decide +kernel) (by decide) rfl rfl (Nat.le_of_ble_eq_true rfl) dX8_tells_12 rfl ?_
    refine gw_if_ne 15 20 hC dX8_tells_15 (by decide) (fun c6 => ?_) (fun c6 => ?_)
    · replace h := if_f h c6
      refine gw_aload_n 20 0 hC dX8_tells_20 rfl ?_
      refine gw_iload_n 21 1 hC dX8_tells_21 rfl ?_
      obtain ⟨z7, ez7, h⟩ := opt_e h
      refine gw_callV (As := [J a1]) (rest := []) (st' := []) 22 1 hC (met_laysTones ez7 l) (lw_V q2512 q2514 qs133 q161 q2515) (by decide +kernel) (by decide) (m_recv hC) rfl rfl (Nat.le_of_ble_eq_true rfl) dX8_tells_22 rfl ?_
      refine gw_iconst 25 hC dX8_tells_25 ?_
      obtain ⟨x3_8, ex3_8, h⟩ := bnd_e h
      refine gw_istore_n 26 [(3, J x3_8), (0, .ref o), (1, J a1), (2, J a2)] hC dX8_tells_26 (by decide) ex3_8 rfl ?_
      refine gw_iconst 27 hC dX8_tells_27 ?_
      obtain ⟨x4_9, ex4_9, h⟩ := bnd_e h
      refine gw_istore 28 [(4, J x4_9), (3, J x3_8), (0, .ref o), (1, J a1), (2, J a2)] hC dX8_tells_28 (by decide) ex4_9 rfl ?_
      refine gw_iconst 30 hC dX8_tells_30 ?_
      obtain ⟨x5_10, ex5_10, h⟩ := bnd_e h
      refine gw_istore 31 [(5, J x5_10), (4, J x4_9), (3, J x3_8), (0, .ref o), (1, J a1), (2, J a2)] hC dX8_tells_31 (by decide) ex5_10 rfl ?_
      refine gw_sub [3, 5, 2, 1, 0] rfl ?_
      refine wm_tells_L33 hC (fun x2_40 x3_41 x4_42 s43 h => ?_) FU _ _ _ _ _ h
      · refine gw_iload_n 98 1 hC dX8_tells_98 rfl ?_
        refine gw_iconst 99 hC dX8_tells_99 ?_
        refine gw_icmp_ne 100 107 hC dX8_tells_100 (by decide) (fun c44 => ?_) (fun c44 => ?_)
        · replace h := if_f h c44
          refine gw_iload_n 107 0 hC dX8_tells_107 rfl ?_
          refine gw_if_ne 108 115 hC dX8_tells_108 (by decide) (fun c45 => ?_) (fun c45 => ?_)
          · replace h := if_f h c45
            refine gw_iload 115 2 hC dX8_tells_115 rfl ?_
            exact gw_iret 117 hC dX8_tells_117 h
          · replace h := if_t h c45
            refine gw_iload_n 111 1 hC dX8_tells_111 rfl ?_
            refine gw_goto 112 117 hC dX8_tells_112 (by decide) ?_
            exact gw_iret 117 hC dX8_tells_117 h
        · replace h := if_t h c44
          refine gw_iconst 103 hC dX8_tells_103 ?_
          refine gw_goto 104 117 hC dX8_tells_104 (by decide) ?_
          exact gw_iret 117 hC dX8_tells_117 h
    · replace h := if_t h c6
      refine gw_iconst 18 hC dX8_tells_18 ?_
      exact gw_iret 19 hC dX8_tells_19 h
/-! undo()Z -/
noncomputable def m_undo_L21 (k55 : MS → Option (Int × MS)) : Nat → Int → MS → Option (Int × MS)
  | 0, _, _ => none
  | n + 1, x1_3, s4 =>
    if i32 219 ≤ i32 x1_3 then
      k55 s4
    else
      gd (ok 4380 ((219 * (s4 71 0)) + x1_3)) <|
      gd (ok 219 x1_3) <|
      bnd (up s4 48 (i32 x1_3) (s4 69 (i32 ((219 * (s4 71 0)) + x1_3)))) fun s9 =>
      bnd (x1_3 + 1) fun x1_10 =>
      m_undo_L21 k55 n x1_10 s9
noncomputable def m_undo (s0 : MS) : Option (Int × MS) :=
  if i32 (s0 70 0) = 0 then
    gd (ok 6 4) <|
    gd (ok 6 4) <|
    bnd (up s0 9 (i32 4) ((s0 9 (i32 4)) + 1)) fun s16 =>
    some (0, s16)
  else
    bnd 0 fun x1_2 =>
    m_undo_L21
      (fun (s11 : MS) =>
        bnd (up s11 71 0 (irem (((s11 71 0) + 20) - 1) 20)) fun s12 =>
        bnd (up s12 70 0 ((s12 70 0) - 1)) fun s13 =>
        some (1, s13))
      FU x1_2 s0
theorem wm_undo_L21 {p : Program} {l : Launch} {e : Env} {s : State} {m : MethodId} {args : Array Value} {below : List Frame} {meth : Method} {c : Code} {D : MD} {o : Nat} {res : Int × MS} {k55 : MS → Option (Int × MS)} (hC : GC p s m args meth c cX8_undo RX8 2 (some .boolean) (MK D)) (hk55 : ∀ (s5 : MS), k55 s5 = some res → GW p l e (rmd 1) s m args below meth c 2 (mAd o) (MRp D o) (MK D) 1 res s5 55 [(0, .ref o)] []) : ∀ (n : Nat) (x1_3 : Int) (s4 : MS), m_undo_L21 k55 n x1_3 s4 = some res → GW p l e (rmd 1) s m args below meth c 2 (mAd o) (MRp D o) (MK D) 1 res s4 21 [(0, .ref o), (1, J x1_3)] [] := by
  intro n
  induction n with
  | zero =>
    intro x1_3 s4 h
    cases h
  | succ n ih =>
    intro x1_3 s4 h
    rw [m_undo_L21] at h
    refine gw_iload_n 21 1 hC dX8_undo_21 rfl ?_
    refine gw_sipush 22 hC dX8_undo_22 (by decide) ?_
    refine gw_icmp_ge 25 55 hC dX8_undo_25 (by decide) (fun c6 => ?_) (fun c6 => ?_)
    · replace h := if_t h c6
      refine gw_sub [0] rfl ?_
      exact hk55 _ h
    · replace h := if_f h c6
      refine gw_aload_n 28 0 hC dX8_undo_28 rfl ?_
      refine mg_48 29 hC dX8_undo_29 ?_
      refine gw_iload_n 32 1 hC dX8_undo_32 rfl ?_
      refine gw_aload_n 33 0 hC dX8_undo_33 rfl ?_
      refine mg_69 34 hC dX8_undo_34 ?_
      refine gw_sipush 37 hC dX8_undo_37 (by decide) ?_
      refine gw_aload_n 40 0 hC dX8_undo_40 rfl ?_
      refine mg_71 41 hC dX8_undo_41 ?_
      refine gw_imul 44 hC dX8_undo_44 ?_
      refine gw_iload_n 45 1 hC dX8_undo_45 rfl ?_
      refine gw_iadd 46 hC dX8_undo_46 ?_
      obtain ⟨g7, h⟩ := gd_e h
      refine m_iald 47 69 hC (by decide) rfl g7 dX8_undo_47 ?_
      obtain ⟨g8, h⟩ := gd_e h
      obtain ⟨s9, es9, h⟩ := bnd_e h
      refine m_iast 48 48 hC (MIn_self o) (by decide) rfl g8 es9 dX8_undo_48 ?_
      obtain ⟨x1_10, ex1_10, h⟩ := bnd_e h
      refine gw_iinc 49 1 [(1, J x1_10), (0, .ref o)] hC dX8_undo_49 rfl ex1_10 (by decide) rfl ?_
      refine gw_goto 52 21 hC dX8_undo_52 (by decide) ?_
      refine gw_sub [1, 0] rfl ?_
      exact ih _ _ h
theorem met_undo {D : MD} {o : Nat} {s0 : MS} {res : Int × MS} (h : m_undo s0 = some res) (l : Launch) : GMet l yX8_undo cX8_undo 2 (some .boolean) 1 (MRp D o) (MK D) (mAd o) [.ref o] s0 1 res := by
  refine GMet.of [(0, .ref o)] (by decide) (MK_moved D) (Nat.le_of_ble_eq_true rfl) rfl ?_
  intro p e s m args below meth c hC
  have hC : GC p s m args meth c cX8_undo RX8 2 (some .boolean) (MK D) := hC
  unfold m_undo at h
  refine gw_aload_n 0 0 hC dX8_undo_0 rfl ?_
  refine mg_70 1 hC dX8_undo_1 ?_
  refine gw_if_ne 4 19 hC dX8_undo_4 (by decide) (fun c1 => ?_) (fun c1 => ?_)
  · replace h := if_f h c1
    refine gw_iconst 19 hC dX8_undo_19 ?_
    obtain ⟨x1_2, ex1_2, h⟩ := bnd_e h
    refine gw_istore_n 20 [(1, J x1_2), (0, .ref o)] hC dX8_undo_20 (by decide) ex1_2 rfl ?_
    refine gw_sub [1, 0] rfl ?_
    refine wm_undo_L21 hC (fun s11 h => ?_) FU _ _ h
    · refine gw_aload_n 55 0 hC dX8_undo_55 rfl ?_
      refine gw_aload_n 56 0 hC dX8_undo_56 rfl ?_
      refine mg_71 57 hC dX8_undo_57 ?_
      refine gw_bipush 60 hC dX8_undo_60 (by decide) ?_
      refine gw_iadd 62 hC dX8_undo_62 ?_
      refine gw_iconst 63 hC dX8_undo_63 ?_
      refine gw_isub 64 hC dX8_undo_64 ?_
      refine gw_bipush 65 hC dX8_undo_65 (by decide) ?_
      refine gw_irem 67 hC dX8_undo_67 (by decide) ?_
      obtain ⟨s12, es12, h⟩ := bnd_e h
      refine mp_71 68 hC (MIn_self o) es12 dX8_undo_68 ?_
      refine gw_aload_n 71 0 hC dX8_undo_71 rfl ?_
      refine gw_dup 72 hC dX8_undo_72 rfl ?_
      refine mg_70 73 hC dX8_undo_73 ?_
      refine gw_iconst 76 hC dX8_undo_76 ?_
      refine gw_isub 77 hC dX8_undo_77 ?_
      obtain ⟨s13, es13, h⟩ := bnd_e h
      refine mp_70 78 hC (MIn_self o) es13 dX8_undo_78 ?_
      refine gw_iconst 81 hC dX8_undo_81 ?_
      exact gw_zret 82 hC dX8_undo_82 (by decide) h
  · replace h := if_t h c1
    refine gw_aload_n 7 0 hC dX8_undo_7 rfl ?_
    refine mg_9 8 hC dX8_undo_8 ?_
    refine gw_iconst 11 hC dX8_undo_11 ?_
    refine gw_dup2 12 hC dX8_undo_12 rfl rfl ?_
    obtain ⟨g14, h⟩ := gd_e h
    refine m_iald 13 9 hC (by decide) rfl g14 dX8_undo_13 ?_
    refine gw_iconst 14 hC dX8_undo_14 ?_
    refine gw_iadd 15 hC dX8_undo_15 ?_
    obtain ⟨g15, h⟩ := gd_e h
    obtain ⟨s16, es16, h⟩ := bnd_e h
    refine m_iast 16 9 hC (MIn_self o) (by decide) rfl g15 es16 dX8_undo_16 ?_
    refine gw_iconst 17 hC dX8_undo_17 ?_
    exact gw_zret 18 hC dX8_undo_18 (by decide) h
/-! isRefused()Z -/
noncomputable def m_isRefused (s0 : MS) : Option (Int × MS) :=
  gd (ok 6 2) <|
  gd (ok 6 2) <|
  bnd (up s0 9 (i32 2) ((s0 9 (i32 2)) + 1)) fun s3 =>
  some (0, s3)
theorem met_isRefused {D : MD} {o : Nat} {s0 : MS} {res : Int × MS} (h : m_isRefused s0 = some res) (l : Launch) : GMet l yX8_isRefused cX8_isRefused 1 (some .boolean) 1 (MRp D o) (MK D) (mAd o) [.ref o] s0 1 res := by
  refine GMet.of [(0, .ref o)] (by decide) (MK_moved D) (Nat.le_of_ble_eq_true rfl) rfl ?_
  intro p e s m args below meth c hC
  have hC : GC p s m args meth c cX8_isRefused RX8 1 (some .boolean) (MK D) := hC
  unfold m_isRefused at h
  refine gw_aload_n 0 0 hC dX8_isRefused_0 rfl ?_
  refine mg_9 1 hC dX8_isRefused_1 ?_
  refine gw_iconst 4 hC dX8_isRefused_4 ?_
  refine gw_dup2 5 hC dX8_isRefused_5 rfl rfl ?_
  obtain ⟨g1, h⟩ := gd_e h
  refine m_iald 6 9 hC (by decide) rfl g1 dX8_isRefused_6 ?_
  refine gw_iconst 7 hC dX8_isRefused_7 ?_
  refine gw_iadd 8 hC dX8_isRefused_8 ?_
  obtain ⟨g2, h⟩ := gd_e h
  obtain ⟨s3, es3, h⟩ := bnd_e h
  refine m_iast 9 9 hC (MIn_self o) (by decide) rfl g2 es3 dX8_isRefused_9 ?_
  refine gw_iconst 10 hC dX8_isRefused_10 ?_
  exact gw_zret 11 hC dX8_isRefused_11 (by decide) h
/-! keeps()V -/
noncomputable def m_keeps_L15 (k49 : MS → Option (Int × MS)) : Nat → Int → MS → Option (Int × MS)
  | 0, _, _ => none
  | n + 1, x1_3, s4 =>
    if i32 219 ≤ i32 x1_3 then
      k49 s4
    else
      gd (ok 219 x1_3) <|
      gd (ok 4380 ((219 * (s4 71 0)) + x1_3)) <|
      bnd (up s4 69 (i32 ((219 * (s4 71 0)) + x1_3)) (s4 48 (i32 x1_3))) fun s9 =>
      bnd (x1_3 + 1) fun x1_10 =>
      m_keeps_L15 k49 n x1_10 s9
noncomputable def m_keeps (s0 : MS) : Option (Int × MS) :=
  bnd (up s0 71 0 (irem ((s0 71 0) + 1) 20)) fun s1 =>
  bnd 0 fun x1_2 =>
  m_keeps_L15
    (fun (s11 : MS) =>
      if i32 20 ≤ i32 (s11 70 0) then
        some (0, s11)
      else
        bnd (up s11 70 0 ((s11 70 0) + 1)) fun s13 =>
        some (0, s13))
    FU x1_2 s1
theorem wm_keeps_L15 {p : Program} {l : Launch} {e : Env} {s : State} {m : MethodId} {args : Array Value} {below : List Frame} {meth : Method} {c : Code} {D : MD} {o : Nat} {res : Int × MS} {k49 : MS → Option (Int × MS)} (hC : GC p s m args meth c cX8_keeps RX8 2 none (MK D)) (hk49 : ∀ (s5 : MS), k49 s5 = some res → GW p l e (rmd 1) s m args below meth c 2 (mAd o) (MRp D o) (MK D) 0 res s5 49 [(0, .ref o)] []) : ∀ (n : Nat) (x1_3 : Int) (s4 : MS), m_keeps_L15 k49 n x1_3 s4 = some res → GW p l e (rmd 1) s m args below meth c 2 (mAd o) (MRp D o) (MK D) 0 res s4 15 [(0, .ref o), (1, J x1_3)] [] := by
  intro n
  induction n with
  | zero =>
    intro x1_3 s4 h
    cases h
  | succ n ih =>
    intro x1_3 s4 h
    rw [m_keeps_L15] at h
    refine gw_iload_n 15 1 hC dX8_keeps_15 rfl ?_
    refine gw_sipush 16 hC dX8_keeps_16 (by decide) ?_
    refine gw_icmp_ge 19 49 hC dX8_keeps_19 (by decide) (fun c6 => ?_) (fun c6 => ?_)
    · replace h := if_t h c6
      refine gw_sub [0] rfl ?_
      exact hk49 _ h
    · replace h := if_f h c6
      refine gw_aload_n 22 0 hC dX8_keeps_22 rfl ?_
      refine mg_69 23 hC dX8_keeps_23 ?_
      refine gw_sipush 26 hC dX8_keeps_26 (by decide) ?_
      refine gw_aload_n 29 0 hC dX8_keeps_29 rfl ?_
      refine mg_71 30 hC dX8_keeps_30 ?_
      refine gw_imul 33 hC dX8_keeps_33 ?_
      refine gw_iload_n 34 1 hC dX8_keeps_34 rfl ?_
      refine gw_iadd 35 hC dX8_keeps_35 ?_
      refine gw_aload_n 36 0 hC dX8_keeps_36 rfl ?_
      refine mg_48 37 hC dX8_keeps_37 ?_
      refine gw_iload_n 40 1 hC dX8_keeps_40 rfl ?_
      obtain ⟨g7, h⟩ := gd_e h
      refine m_iald 41 48 hC (by decide) rfl g7 dX8_keeps_41 ?_
      obtain ⟨g8, h⟩ := gd_e h
      obtain ⟨s9, es9, h⟩ := bnd_e h
      refine m_iast 42 69 hC (MIn_self o) (by decide) rfl g8 es9 dX8_keeps_42 ?_
      obtain ⟨x1_10, ex1_10, h⟩ := bnd_e h
      refine gw_iinc 43 1 [(1, J x1_10), (0, .ref o)] hC dX8_keeps_43 rfl ex1_10 (by decide) rfl ?_
      refine gw_goto 46 15 hC dX8_keeps_46 (by decide) ?_
      refine gw_sub [1, 0] rfl ?_
      exact ih _ _ h
theorem met_keeps {D : MD} {o : Nat} {s0 : MS} {res : Int × MS} (h : m_keeps s0 = some res) (l : Launch) : GMet l yX8_keeps cX8_keeps 2 none 1 (MRp D o) (MK D) (mAd o) [.ref o] s0 0 res := by
  refine GMet.of [(0, .ref o)] (by decide) (MK_moved D) (Nat.le_of_ble_eq_true rfl) rfl ?_
  intro p e s m args below meth c hC
  have hC : GC p s m args meth c cX8_keeps RX8 2 none (MK D) := hC
  unfold m_keeps at h
  refine gw_aload_n 0 0 hC dX8_keeps_0 rfl ?_
  refine gw_aload_n 1 0 hC dX8_keeps_1 rfl ?_
  refine mg_71 2 hC dX8_keeps_2 ?_
  refine gw_iconst 5 hC dX8_keeps_5 ?_
  refine gw_iadd 6 hC dX8_keeps_6 ?_
  refine gw_bipush 7 hC dX8_keeps_7 (by decide) ?_
  refine gw_irem 9 hC dX8_keeps_9 (by decide) ?_
  obtain ⟨s1, es1, h⟩ := bnd_e h
  refine mp_71 10 hC (MIn_self o) es1 dX8_keeps_10 ?_
  refine gw_iconst 13 hC dX8_keeps_13 ?_
  obtain ⟨x1_2, ex1_2, h⟩ := bnd_e h
  refine gw_istore_n 14 [(1, J x1_2), (0, .ref o)] hC dX8_keeps_14 (by decide) ex1_2 rfl ?_
  refine gw_sub [1, 0] rfl ?_
  refine wm_keeps_L15 hC (fun s11 h => ?_) FU _ _ h
  · refine gw_aload_n 49 0 hC dX8_keeps_49 rfl ?_
    refine mg_70 50 hC dX8_keeps_50 ?_
    refine gw_bipush 53 hC dX8_keeps_53 (by decide) ?_
    refine gw_icmp_ge 55 68 hC dX8_keeps_55 (by decide) (fun c12 => ?_) (fun c12 => ?_)
    · replace h := if_t h c12
      exact gw_vret 68 hC dX8_keeps_68 h
    · replace h := if_f h c12
      refine gw_aload_n 58 0 hC dX8_keeps_58 rfl ?_
      refine gw_dup 59 hC dX8_keeps_59 rfl ?_
      refine mg_70 60 hC dX8_keeps_60 ?_
      refine gw_iconst 63 hC dX8_keeps_63 ?_
      refine gw_iadd 64 hC dX8_keeps_64 ?_
      obtain ⟨s13, es13, h⟩ := bnd_e h
      refine mp_70 65 hC (MIn_self o) es13 dX8_keeps_65 ?_
      exact gw_vret 68 hC dX8_keeps_68 h
/-! carry(III)Z -/
noncomputable def m_carry (a1 : Int) (a2 : Int) (a3 : Int) (s0 : MS) : Option (Int × MS) :=
  Option.bind (m_isSaying a1 s0) fun z4 =>
  bnd (fun (s5 : MS) =>
      Option.bind (m_isRefused s5) fun z6 =>
      gd (bz z6.1) <|
      some (z6.1, z6.2)) fun j8 =>
  if i32 z4.1 = 0 then
    j8 z4.2
  else
    Option.bind (m_isIn (i32 a2) 0 9 z4.2) fun z10 =>
    if i32 z10.1 = 0 then
      j8 z10.2
    else
      Option.bind (m_isIn (i32 a3) 0 9 z10.2) fun z12 =>
      if i32 z12.1 = 0 then
        j8 z12.2
      else
        Option.bind (m_columnOf a1 z12.2) fun z14 =>
        bnd (fun (x1_15 : Int) (x2_16 : Int) (x3_17 : Int) (s18 : MS) =>
            Option.bind (m_keeps s18) fun z19 =>
            gd (ok 219 (8 + (10 * x1_15))) <|
            bnd (up z19.2 48 (i32 (8 + (10 * x1_15))) x2_16) fun s21 =>
            gd (ok 219 ((8 + (10 * x1_15)) + 1)) <|
            bnd (up s21 48 (i32 ((8 + (10 * x1_15)) + 1)) x3_17) fun s23 =>
            some (1, s23)) fun j24 =>
        if i32 z14.1 = i32 a2 then
          Option.bind (m_rowOf a1 z14.2) fun z26 =>
          if i32 z26.1 = i32 a3 then
            j8 z26.2
          else
            j24 a1 a2 a3 z26.2
        else
          j24 a1 a2 a3 z14.2
theorem met_carry {D : MD} {o : Nat} {a1 : Int} {a2 : Int} {a3 : Int} {s0 : MS} {res : Int × MS} (h : m_carry a1 a2 a3 s0 = some res) (l : Launch) : GMet l yX8_carry cX8_carry 4 (some .boolean) 3 (MRp D o) (MK D) (mAd o) [.ref o, J a1, J a2, J a3] s0 1 res := by
  refine GMet.of [(0, .ref o), (1, J a1), (2, J a2), (3, J a3)] (by decide) (MK_moved D) (Nat.le_of_ble_eq_true rfl) rfl ?_
  intro p e s m args below meth c hC
  have hC : GC p s m args meth c cX8_carry RX8 4 (some .boolean) (MK D) := hC
  unfold m_carry at h
  refine gw_aload_n 0 0 hC dX8_carry_0 rfl ?_
  refine gw_iload_n 1 1 hC dX8_carry_1 rfl ?_
  obtain ⟨z4, ez4, h⟩ := opt_e h
  refine gw_callV (As := [J a1]) (rest := []) (st' := [J z4.1]) 2 1 hC (met_isSaying ez4 l) (lw_V q2295 q2297 qs98 q161 q2298) (by decide +kernel) (by decide) (m_recv hC) rfl rfl (Nat.le_of_ble_eq_true rfl) dX8_carry_2 rfl ?_
  obtain ⟨j8, ej8, h⟩ := bnd_e h
  have hj8 : ∀ (s5 : MS), j8 s5 = some res → GW p l e (rmd 3) s m args below meth c 4 (mAd o) (MRp D o) (MK D) 1 res s5 50 [(0, .ref o)] [] := by
    clear h
    intro s5 h
    subst ej8
    refine gw_aload_n 50 0 hC dX8_carry_50 rfl ?_
    obtain ⟨z6, ez6, h⟩ := opt_e h
    refine gw_callV (As := []) (rest := []) (st' := [J z6.1]) 51 0 hC (met_isRefused ez6 l) (lw_V q2536 q2538 qs136 q161 q2539) (by decide +kernel) (by decide) (m_recv hC) rfl rfl (Nat.le_of_ble_eq_true rfl) dX8_carry_51 rfl ?_
    obtain ⟨g7, h⟩ := gd_e h
    exact gw_zret 54 hC dX8_carry_54 g7 h
  refine gw_if_eq 5 50 hC dX8_carry_5 (by decide) (fun c9 => ?_) (fun c9 => ?_)
  · replace h := if_t h c9
    refine gw_sub [0] rfl ?_
    exact hj8 _ h
  · replace h := if_f h c9
    refine gw_iload_n 8 2 hC dX8_carry_8 rfl ?_
    refine gw_i2l 9 hC dX8_carry_9 ?_
    refine gw_lconst (v := 0) 10 hC dX8_carry_10 (by decide) ?_
    refine gw_ldc2 (v := 9) 11 hC dX8_carry_11 q2487 (by decide) ?_
    obtain ⟨z10, ez10, h⟩ := opt_e h
    refine gw_callS (As := [Lg (i32 a2), Lg 0, Lg 9]) (rest := []) (st' := [J z10.1]) 14 3 hC (met_isIn ez10 l) (lw_S q2123 q2124 q161 q2125) (by decide +kernel) (by decide) rfl rfl (Nat.le_of_ble_eq_true rfl) dX8_carry_14 rfl ?_
    refine gw_if_eq 17 50 hC dX8_carry_17 (by decide) (fun c11 => ?_) (fun c11 => ?_)
    · replace h := if_t h c11
      refine gw_sub [0] rfl ?_
      exact hj8 _ h
    · replace h := if_f h c11
      refine gw_iload_n 20 3 hC dX8_carry_20 rfl ?_
      refine gw_i2l 21 hC dX8_carry_21 ?_
      refine gw_lconst (v := 0) 22 hC dX8_carry_22 (by decide) ?_
      refine gw_ldc2 (v := 9) 23 hC dX8_carry_23 q2487 (by decide) ?_
      obtain ⟨z12, ez12, h⟩ := opt_e h
      refine gw_callS (As := [Lg (i32 a3), Lg 0, Lg 9]) (rest := []) (st' := [J z12.1]) 26 3 hC (met_isIn ez12 l) (lw_S q2123 q2124 q161 q2125) (by decide +kernel) (by decide) rfl rfl (Nat.le_of_ble_eq_true rfl) dX8_carry_26 rfl ?_
      refine gw_if_eq 29 50 hC dX8_carry_29 (by decide) (fun c13 => ?_) (fun c13 => ?_)
      · replace h := if_t h c13
        refine gw_sub [0] rfl ?_
        exact hj8 _ h
      · replace h := if_f h c13
        refine gw_aload_n 32 0 hC dX8_carry_32 rfl ?_
        refine gw_iload_n 33 1 hC dX8_carry_33 rfl ?_
        obtain ⟨z14, ez14, h⟩ := opt_e h
        refine gw_callV (As := [J a1]) (rest := []) (st' := [J z14.1]) 34 1 hC (met_columnOf ez14 l) (lw_V q2328 q2330 qs106 q161 q2331) (by decide +kernel) (by decide) (m_recv hC) rfl rfl (Nat.le_of_ble_eq_true rfl) dX8_carry_34 rfl ?_
        refine gw_iload_n 37 2 hC dX8_carry_37 rfl ?_
        obtain ⟨j24, ej24, h⟩ := bnd_e h
        have hj24 : ∀ (x1_15 : Int) (x2_16 : Int) (x3_17 : Int) (s18 : MS), j24 x1_15 x2_16 x3_17 s18 = some res → GW p l e (rmd 3) s m args below meth c 4 (mAd o) (MRp D o) (MK D) 1 res s18 55 [(0, .ref o), (1, J x1_15), (2, J x2_16), (3, J x3_17)] [] := by
          clear h
          intro x1_15 x2_16 x3_17 s18 h
          subst ej24
          refine gw_aload_n 55 0 hC dX8_carry_55 rfl ?_
          obtain ⟨z19, ez19, h⟩ := opt_e h
          refine gw_callV (As := []) (rest := []) (st' := []) 56 0 hC (met_keeps ez19 l) (lw_V q2540 q2542 qs137 q161 q2543) (by decide +kernel) (by decide) (m_recv hC) rfl rfl (Nat.le_of_ble_eq_true rfl) dX8_carry_56 rfl ?_
          refine gw_aload_n 59 0 hC dX8_carry_59 rfl ?_
          refine mg_48 60 hC dX8_carry_60 ?_
          refine gw_bipush 63 hC dX8_carry_63 (by decide) ?_
          refine gw_bipush 65 hC dX8_carry_65 (by decide) ?_
          refine gw_iload_n 67 1 hC dX8_carry_67 rfl ?_
          refine gw_imul 68 hC dX8_carry_68 ?_
          refine gw_iadd 69 hC dX8_carry_69 ?_
          refine gw_iload_n 70 2 hC dX8_carry_70 rfl ?_
          obtain ⟨g20, h⟩ := gd_e h
          obtain ⟨s21, es21, h⟩ := bnd_e h
          refine m_iast 71 48 hC (MIn_self o) (by decide) rfl g20 es21 dX8_carry_71 ?_
          refine gw_aload_n 72 0 hC dX8_carry_72 rfl ?_
          refine mg_48 73 hC dX8_carry_73 ?_
          refine gw_bipush 76 hC dX8_carry_76 (by decide) ?_
          refine gw_bipush 78 hC dX8_carry_78 (by decide) ?_
          refine gw_iload_n 80 1 hC dX8_carry_80 rfl ?_
          refine gw_imul 81 hC dX8_carry_81 ?_
          refine gw_iadd 82 hC dX8_carry_82 ?_
          refine gw_iconst 83 hC dX8_carry_83 ?_
          refine gw_iadd 84 hC dX8_carry_84 ?_
          refine gw_iload_n 85 3 hC dX8_carry_85 rfl ?_
          obtain ⟨g22, h⟩ := gd_e h
          obtain ⟨s23, es23, h⟩ := bnd_e h
          refine m_iast 86 48 hC (MIn_self o) (by decide) rfl g22 es23 dX8_carry_86 ?_
          refine gw_iconst 87 hC dX8_carry_87 ?_
          exact gw_zret 88 hC dX8_carry_88 (by decide) h
        refine gw_icmp_ne 38 55 hC dX8_carry_38 (by decide) (fun c25 => ?_) (fun c25 => ?_)
        · replace h := if_f h c25
          refine gw_sub [0, 1, 2, 3] rfl ?_
          exact hj24 _ _ _ _ h
        · replace h := if_t h c25
          refine gw_aload_n 41 0 hC dX8_carry_41 rfl ?_
          refine gw_iload_n 42 1 hC dX8_carry_42 rfl ?_
          obtain ⟨z26, ez26, h⟩ := opt_e h
          refine gw_callV (As := [J a1]) (rest := []) (st' := [J z26.1]) 43 1 hC (met_rowOf ez26 l) (lw_V q2332 q2334 qs107 q161 q2335) (by decide +kernel) (by decide) (m_recv hC) rfl rfl (Nat.le_of_ble_eq_true rfl) dX8_carry_43 rfl ?_
          refine gw_iload_n 46 3 hC dX8_carry_46 rfl ?_
          refine gw_icmp_ne 47 55 hC dX8_carry_47 (by decide) (fun c27 => ?_) (fun c27 => ?_)
          · replace h := if_f h c27
            refine gw_sub [0, 1, 2, 3] rfl ?_
            exact hj24 _ _ _ _ h
          · replace h := if_t h c27
            refine gw_sub [0] rfl ?_
            exact hj8 _ h
/-! retell(II)Z -/
noncomputable def m_retell (a1 : Int) (a2 : Int) (s0 : MS) : Option (Int × MS) :=
  Option.bind (m_isSaying a1 s0) fun z3 =>
  bnd (fun (s4 : MS) =>
      Option.bind (m_isRefused s4) fun z5 =>
      gd (bz z5.1) <|
      some (z5.1, z5.2)) fun j7 =>
  if i32 z3.1 = 0 then
    j7 z3.2
  else
    Option.bind (m_isIn (i32 a2) 0 9 z3.2) fun z9 =>
    if i32 z9.1 = 0 then
      j7 z9.2
    else
      Option.bind (m_toneOf a1 z9.2) fun z11 =>
      if i32 z11.1 = i32 a2 then
        j7 z11.2
      else
        Option.bind (m_keeps z11.2) fun z13 =>
        gd (ok 219 ((8 + (10 * a1)) + 2)) <|
        bnd (up z13.2 48 (i32 ((8 + (10 * a1)) + 2)) a2) fun s15 =>
        some (1, s15)
theorem met_retell {D : MD} {o : Nat} {a1 : Int} {a2 : Int} {s0 : MS} {res : Int × MS} (h : m_retell a1 a2 s0 = some res) (l : Launch) : GMet l yX8_retell cX8_retell 3 (some .boolean) 3 (MRp D o) (MK D) (mAd o) [.ref o, J a1, J a2] s0 1 res := by
  refine GMet.of [(0, .ref o), (1, J a1), (2, J a2)] (by decide) (MK_moved D) (Nat.le_of_ble_eq_true rfl) rfl ?_
  intro p e s m args below meth c hC
  have hC : GC p s m args meth c cX8_retell RX8 3 (some .boolean) (MK D) := hC
  unfold m_retell at h
  refine gw_aload_n 0 0 hC dX8_retell_0 rfl ?_
  refine gw_iload_n 1 1 hC dX8_retell_1 rfl ?_
  obtain ⟨z3, ez3, h⟩ := opt_e h
  refine gw_callV (As := [J a1]) (rest := []) (st' := [J z3.1]) 2 1 hC (met_isSaying ez3 l) (lw_V q2295 q2297 qs98 q161 q2298) (by decide +kernel) (by decide) (m_recv hC) rfl rfl (Nat.le_of_ble_eq_true rfl) dX8_retell_2 rfl ?_
  obtain ⟨j7, ej7, h⟩ := bnd_e h
  have hj7 : ∀ (s4 : MS), j7 s4 = some res → GW p l e (rmd 3) s m args below meth c 3 (mAd o) (MRp D o) (MK D) 1 res s4 29 [(0, .ref o)] [] := by
    clear h
    intro s4 h
    subst ej7
    refine gw_aload_n 29 0 hC dX8_retell_29 rfl ?_
    obtain ⟨z5, ez5, h⟩ := opt_e h
    refine gw_callV (As := []) (rest := []) (st' := [J z5.1]) 30 0 hC (met_isRefused ez5 l) (lw_V q2536 q2538 qs136 q161 q2539) (by decide +kernel) (by decide) (m_recv hC) rfl rfl (Nat.le_of_ble_eq_true rfl) dX8_retell_30 rfl ?_
    obtain ⟨g6, h⟩ := gd_e h
    exact gw_zret 33 hC dX8_retell_33 g6 h
  refine gw_if_eq 5 29 hC dX8_retell_5 (by decide) (fun c8 => ?_) (fun c8 => ?_)
  · replace h := if_t h c8
    refine gw_sub [0] rfl ?_
    exact hj7 _ h
  · replace h := if_f h c8
    refine gw_iload_n 8 2 hC dX8_retell_8 rfl ?_
    refine gw_i2l 9 hC dX8_retell_9 ?_
    refine gw_lconst (v := 0) 10 hC dX8_retell_10 (by decide) ?_
    refine gw_ldc2 (v := 9) 11 hC dX8_retell_11 q2487 (by decide) ?_
    obtain ⟨z9, ez9, h⟩ := opt_e h
    refine gw_callS (As := [Lg (i32 a2), Lg 0, Lg 9]) (rest := []) (st' := [J z9.1]) 14 3 hC (met_isIn ez9 l) (lw_S q2123 q2124 q161 q2125) (by decide +kernel) (by decide) rfl rfl (Nat.le_of_ble_eq_true rfl) dX8_retell_14 rfl ?_
    refine gw_if_eq 17 29 hC dX8_retell_17 (by decide) (fun c10 => ?_) (fun c10 => ?_)
    · replace h := if_t h c10
      refine gw_sub [0] rfl ?_
      exact hj7 _ h
    · replace h := if_f h c10
      refine gw_aload_n 20 0 hC dX8_retell_20 rfl ?_
      refine gw_iload_n 21 1 hC dX8_retell_21 rfl ?_
      obtain ⟨z11, ez11, h⟩ := opt_e h
      refine gw_callV (As := [J a1]) (rest := []) (st' := [J z11.1]) 22 1 hC (met_toneOf ez11 l) (lw_V q2324 q2326 qs105 q161 q2327) (by decide +kernel) (by decide) (m_recv hC) rfl rfl (Nat.le_of_ble_eq_true rfl) dX8_retell_22 rfl ?_
      refine gw_iload_n 25 2 hC dX8_retell_25 rfl ?_
      refine gw_icmp_ne 26 34 hC dX8_retell_26 (by decide) (fun c12 => ?_) (fun c12 => ?_)
      · replace h := if_f h c12
        refine gw_aload_n 34 0 hC dX8_retell_34 rfl ?_
        obtain ⟨z13, ez13, h⟩ := opt_e h
        refine gw_callV (As := []) (rest := []) (st' := []) 35 0 hC (met_keeps ez13 l) (lw_V q2540 q2542 qs137 q161 q2543) (by decide +kernel) (by decide) (m_recv hC) rfl rfl (Nat.le_of_ble_eq_true rfl) dX8_retell_35 rfl ?_
        refine gw_aload_n 38 0 hC dX8_retell_38 rfl ?_
        refine mg_48 39 hC dX8_retell_39 ?_
        refine gw_bipush 42 hC dX8_retell_42 (by decide) ?_
        refine gw_bipush 44 hC dX8_retell_44 (by decide) ?_
        refine gw_iload_n 46 1 hC dX8_retell_46 rfl ?_
        refine gw_imul 47 hC dX8_retell_47 ?_
        refine gw_iadd 48 hC dX8_retell_48 ?_
        refine gw_iconst 49 hC dX8_retell_49 ?_
        refine gw_iadd 50 hC dX8_retell_50 ?_
        refine gw_iload_n 51 2 hC dX8_retell_51 rfl ?_
        obtain ⟨g14, h⟩ := gd_e h
        obtain ⟨s15, es15, h⟩ := bnd_e h
        refine m_iast 52 48 hC (MIn_self o) (by decide) rfl g14 es15 dX8_retell_52 ?_
        refine gw_iconst 53 hC dX8_retell_53 ?_
        exact gw_zret 54 hC dX8_retell_54 (by decide) h
      · replace h := if_t h c12
        refine gw_sub [0] rfl ?_
        exact hj7 _ h
/-! lend(II)Z -/
noncomputable def m_lend (a1 : Int) (a2 : Int) (s0 : MS) : Option (Int × MS) :=
  Option.bind (m_isVerb (i32 a1) s0) fun z3 =>
  bnd (fun (s4 : MS) =>
      Option.bind (m_isRefused s4) fun z5 =>
      gd (bz z5.1) <|
      some (z5.1, z5.2)) fun j7 =>
  if i32 z3.1 = 0 then
    j7 z3.2
  else
    Option.bind (m_isIn (i32 a2) 0 1 z3.2) fun z9 =>
    if i32 z9.1 = 0 then
      j7 z9.2
    else
      gd (ok 219 (1 + a1)) <|
      if i32 (z9.2 48 (i32 (1 + a1))) = i32 a2 then
        j7 z9.2
      else
        Option.bind (m_keeps z9.2) fun z13 =>
        gd (ok 219 (1 + a1)) <|
        bnd (up z13.2 48 (i32 (1 + a1)) a2) fun s15 =>
        some (1, s15)
theorem met_lend {D : MD} {o : Nat} {a1 : Int} {a2 : Int} {s0 : MS} {res : Int × MS} (h : m_lend a1 a2 s0 = some res) (l : Launch) : GMet l yX8_lend cX8_lend 3 (some .boolean) 3 (MRp D o) (MK D) (mAd o) [.ref o, J a1, J a2] s0 1 res := by
  refine GMet.of [(0, .ref o), (1, J a1), (2, J a2)] (by decide) (MK_moved D) (Nat.le_of_ble_eq_true rfl) rfl ?_
  intro p e s m args below meth c hC
  have hC : GC p s m args meth c cX8_lend RX8 3 (some .boolean) (MK D) := hC
  unfold m_lend at h
  refine gw_aload_n 0 0 hC dX8_lend_0 rfl ?_
  refine gw_iload_n 1 1 hC dX8_lend_1 rfl ?_
  refine gw_i2l 2 hC dX8_lend_2 ?_
  obtain ⟨z3, ez3, h⟩ := opt_e h
  refine gw_callV (As := [Lg (i32 a1)]) (rest := []) (st' := [J z3.1]) 3 1 hC (met_isVerb ez3 l) (lw_V q2389 q2391 qs118 q161 q2392) (by decide +kernel) (by decide) (m_recv hC) rfl rfl (Nat.le_of_ble_eq_true rfl) dX8_lend_3 rfl ?_
  obtain ⟨j7, ej7, h⟩ := bnd_e h
  have hj7 : ∀ (s4 : MS), j7 s4 = some res → GW p l e (rmd 3) s m args below meth c 3 (mAd o) (MRp D o) (MK D) 1 res s4 31 [(0, .ref o)] [] := by
    clear h
    intro s4 h
    subst ej7
    refine gw_aload_n 31 0 hC dX8_lend_31 rfl ?_
    obtain ⟨z5, ez5, h⟩ := opt_e h
    refine gw_callV (As := []) (rest := []) (st' := [J z5.1]) 32 0 hC (met_isRefused ez5 l) (lw_V q2536 q2538 qs136 q161 q2539) (by decide +kernel) (by decide) (m_recv hC) rfl rfl (Nat.le_of_ble_eq_true rfl) dX8_lend_32 rfl ?_
    obtain ⟨g6, h⟩ := gd_e h
    exact gw_zret 35 hC dX8_lend_35 g6 h
  refine gw_if_eq 6 31 hC dX8_lend_6 (by decide) (fun c8 => ?_) (fun c8 => ?_)
  · replace h := if_t h c8
    refine gw_sub [0] rfl ?_
    exact hj7 _ h
  · replace h := if_f h c8
    refine gw_iload_n 9 2 hC dX8_lend_9 rfl ?_
    refine gw_i2l 10 hC dX8_lend_10 ?_
    refine gw_lconst (v := 0) 11 hC dX8_lend_11 (by decide) ?_
    refine gw_lconst (v := 1) 12 hC dX8_lend_12 (by decide) ?_
    obtain ⟨z9, ez9, h⟩ := opt_e h
    refine gw_callS (As := [Lg (i32 a2), Lg 0, Lg 1]) (rest := []) (st' := [J z9.1]) 13 3 hC (met_isIn ez9 l) (lw_S q2123 q2124 q161 q2125) (by decide +kernel) (by decide) rfl rfl (Nat.le_of_ble_eq_true rfl) dX8_lend_13 rfl ?_
    refine gw_if_eq 16 31 hC dX8_lend_16 (by decide) (fun c10 => ?_) (fun c10 => ?_)
    · replace h := if_t h c10
      refine gw_sub [0] rfl ?_
      exact hj7 _ h
    · replace h := if_f h c10
      refine gw_aload_n 19 0 hC dX8_lend_19 rfl ?_
      refine mg_48 20 hC dX8_lend_20 ?_
      refine gw_iconst 23 hC dX8_lend_23 ?_
      refine gw_iload_n 24 1 hC dX8_lend_24 rfl ?_
      refine gw_iadd 25 hC dX8_lend_25 ?_
      obtain ⟨g11, h⟩ := gd_e h
      refine m_iald 26 48 hC (by decide) rfl g11 dX8_lend_26 ?_
      refine gw_iload_n 27 2 hC dX8_lend_27 rfl ?_
      refine gw_icmp_ne 28 36 hC dX8_lend_28 (by decide) (fun c12 => ?_) (fun c12 => ?_)
      · replace h := if_f h c12
        refine gw_aload_n 36 0 hC dX8_lend_36 rfl ?_
        obtain ⟨z13, ez13, h⟩ := opt_e h
        refine gw_callV (As := []) (rest := []) (st' := []) 37 0 hC (met_keeps ez13 l) (lw_V q2540 q2542 qs137 q161 q2543) (by decide +kernel) (by decide) (m_recv hC) rfl rfl (Nat.le_of_ble_eq_true rfl) dX8_lend_37 rfl ?_
        refine gw_aload_n 40 0 hC dX8_lend_40 rfl ?_
        refine mg_48 41 hC dX8_lend_41 ?_
        refine gw_iconst 44 hC dX8_lend_44 ?_
        refine gw_iload_n 45 1 hC dX8_lend_45 rfl ?_
        refine gw_iadd 46 hC dX8_lend_46 ?_
        refine gw_iload_n 47 2 hC dX8_lend_47 rfl ?_
        obtain ⟨g14, h⟩ := gd_e h
        obtain ⟨s15, es15, h⟩ := bnd_e h
        refine m_iast 48 48 hC (MIn_self o) (by decide) rfl g14 es15 dX8_lend_48 ?_
        refine gw_iconst 49 hC dX8_lend_49 ?_
        exact gw_zret 50 hC dX8_lend_50 (by decide) h
      · replace h := if_t h c12
        refine gw_sub [0] rfl ?_
        exact hj7 _ h
/-! days(I)I -/
noncomputable def m_days (a1 : Int) (s0 : MS) : Option (Int × MS) :=
  Option.bind (m_isAhead a1 1 100 s0) fun z2 =>
  if i32 z2.1 = 0 then
    Option.bind (m_refuses 3 z2.2) fun z7 =>
    some (z7.1, z7.2)
  else
    Option.bind (m_keeps z2.2) fun z4 =>
    bnd (up z4.2 61 0 0) fun s5 =>
    Option.bind (m_daysGo a1 s5) fun z6 =>
    some ((z6.2 61 0), z6.2)
theorem met_days {D : MD} {o : Nat} {a1 : Int} {s0 : MS} {res : Int × MS} (h : m_days a1 s0 = some res) (l : Launch) : GMet l yX8_days cX8_days 2 (some .int) 9 (MRp D o) (MK D) (mAd o) [.ref o, J a1] s0 1 res := by
  refine GMet.of [(0, .ref o), (1, J a1)] (by decide) (MK_moved D) (Nat.le_of_ble_eq_true rfl) rfl ?_
  intro p e s m args below meth c hC
  have hC : GC p s m args meth c cX8_days RX8 2 (some .int) (MK D) := hC
  unfold m_days at h
  refine gw_aload_n 0 0 hC dX8_days_0 rfl ?_
  refine gw_iload_n 1 1 hC dX8_days_1 rfl ?_
  refine gw_iconst 2 hC dX8_days_2 ?_
  refine gw_bipush 3 hC dX8_days_3 (by decide) ?_
  obtain ⟨z2, ez2, h⟩ := opt_e h
  refine gw_callV (As := [J a1, J 1, J 100]) (rest := []) (st' := [J z2.1]) 5 3 hC (met_isAhead ez2 l) (lw_V q2463 q2465 qs125 q161 q2466) (by decide +kernel) (by decide) (m_recv hC) rfl rfl (Nat.le_of_ble_eq_true rfl) dX8_days_5 rfl ?_
  refine gw_if_ne 8 17 hC dX8_days_8 (by decide) (fun c3 => ?_) (fun c3 => ?_)
  · replace h := if_f h c3
    refine gw_aload_n 17 0 hC dX8_days_17 rfl ?_
    obtain ⟨z4, ez4, h⟩ := opt_e h
    refine gw_callV (As := []) (rest := []) (st' := []) 18 0 hC (met_keeps ez4 l) (lw_V q2540 q2542 qs137 q161 q2543) (by decide +kernel) (by decide) (m_recv hC) rfl rfl (Nat.le_of_ble_eq_true rfl) dX8_days_18 rfl ?_
    refine gw_aload_n 21 0 hC dX8_days_21 rfl ?_
    refine gw_iconst 22 hC dX8_days_22 ?_
    obtain ⟨s5, es5, h⟩ := bnd_e h
    refine mp_61 23 hC (MIn_self o) es5 dX8_days_23 ?_
    refine gw_aload_n 26 0 hC dX8_days_26 rfl ?_
    refine gw_iload_n 27 1 hC dX8_days_27 rfl ?_
    obtain ⟨z6, ez6, h⟩ := opt_e h
    refine gw_callV (As := [J a1]) (rest := []) (st' := []) 28 1 hC (met_daysGo ez6 l) (lw_V q2467 q2469 qs126 q161 q2470) (by decide +kernel) (by decide) (m_recv hC) rfl rfl (Nat.le_of_ble_eq_true rfl) dX8_days_28 rfl ?_
    refine gw_aload_n 31 0 hC dX8_days_31 rfl ?_
    refine mg_61 32 hC dX8_days_32 ?_
    exact gw_iret 35 hC dX8_days_35 h
  · replace h := if_t h c3
    refine gw_aload_n 11 0 hC dX8_days_11 rfl ?_
    refine gw_iconst 12 hC dX8_days_12 ?_
    obtain ⟨z7, ez7, h⟩ := opt_e h
    refine gw_callV (As := [J 3]) (rest := []) (st' := [J z7.1]) 13 1 hC (met_refuses ez7 l) (lw_V q2504 q2506 qs132 q161 q2507) (by decide +kernel) (by decide) (m_recv hC) rfl rfl (Nat.le_of_ble_eq_true rfl) dX8_days_13 rfl ?_
    exact gw_iret 16 hC dX8_days_16 h
/-! seed(I)Z -/
noncomputable def m_seed (a1 : Int) (s0 : MS) : Option (Int × MS) :=
  if 0 ≤ i32 a1 then
    bnd (up s0 72 0 (i32 a1)) fun s3 =>
    some (1, s3)
  else
    gd (ok 6 5) <|
    gd (ok 6 5) <|
    bnd (up s0 9 (i32 5) ((s0 9 (i32 5)) + 1)) fun s6 =>
    some (0, s6)
theorem met_seed {D : MD} {o : Nat} {a1 : Int} {s0 : MS} {res : Int × MS} (h : m_seed a1 s0 = some res) (l : Launch) : GMet l yX8_seed cX8_seed 2 (some .boolean) 1 (MRp D o) (MK D) (mAd o) [.ref o, J a1] s0 1 res := by
  refine GMet.of [(0, .ref o), (1, J a1)] (by decide) (MK_moved D) (Nat.le_of_ble_eq_true rfl) rfl ?_
  intro p e s m args below meth c hC
  have hC : GC p s m args meth c cX8_seed RX8 2 (some .boolean) (MK D) := hC
  unfold m_seed at h
  refine gw_iload_n 0 1 hC dX8_seed_0 rfl ?_
  refine gw_if_ge 1 16 hC dX8_seed_1 (by decide) (fun c2 => ?_) (fun c2 => ?_)
  · replace h := if_t h c2
    refine gw_aload_n 16 0 hC dX8_seed_16 rfl ?_
    refine gw_iload_n 17 1 hC dX8_seed_17 rfl ?_
    refine gw_i2l 18 hC dX8_seed_18 ?_
    obtain ⟨s3, es3, h⟩ := bnd_e h
    refine mp_72 19 hC (MIn_self o) es3 dX8_seed_19 ?_
    refine gw_iconst 22 hC dX8_seed_22 ?_
    exact gw_zret 23 hC dX8_seed_23 (by decide) h
  · replace h := if_f h c2
    refine gw_aload_n 4 0 hC dX8_seed_4 rfl ?_
    refine mg_9 5 hC dX8_seed_5 ?_
    refine gw_iconst 8 hC dX8_seed_8 ?_
    refine gw_dup2 9 hC dX8_seed_9 rfl rfl ?_
    obtain ⟨g4, h⟩ := gd_e h
    refine m_iald 10 9 hC (by decide) rfl g4 dX8_seed_10 ?_
    refine gw_iconst 11 hC dX8_seed_11 ?_
    refine gw_iadd 12 hC dX8_seed_12 ?_
    obtain ⟨g5, h⟩ := gd_e h
    obtain ⟨s6, es6, h⟩ := bnd_e h
    refine m_iast 13 9 hC (MIn_self o) (by decide) rfl g5 es6 dX8_seed_13 ?_
    refine gw_iconst 14 hC dX8_seed_14 ?_
    exact gw_zret 15 hC dX8_seed_15 (by decide) h
/-! drawOf(I)I -/
noncomputable def m_drawOf (a1 : Int) (s0 : MS) : Option (Int × MS) :=
  bnd (up s0 72 0 (lrem ((1103515245 * (s0 72 0)) + 12345) 2147483648)) fun s2 =>
  gd (¬ i64 (i32 a1) = 0) <|
  some ((lrem (ldiv (s2 72 0) 64) (i32 a1)), s2)
theorem met_drawOf {D : MD} {o : Nat} {a1 : Int} {s0 : MS} {res : Int × MS} (h : m_drawOf a1 s0 = some res) (l : Launch) : GMet l yX8_drawOf cX8_drawOf 2 (some .int) 1 (MRp D o) (MK D) (mAd o) [.ref o, J a1] s0 1 res := by
  refine GMet.of [(0, .ref o), (1, J a1)] (by decide) (MK_moved D) (Nat.le_of_ble_eq_true rfl) rfl ?_
  intro p e s m args below meth c hC
  have hC : GC p s m args meth c cX8_drawOf RX8 2 (some .int) (MK D) := hC
  unfold m_drawOf at h
  refine gw_aload_n 0 0 hC dX8_drawOf_0 rfl ?_
  refine gw_ldc2 (v := 1103515245) 1 hC dX8_drawOf_1 q2568 (by decide) ?_
  refine gw_aload_n 4 0 hC dX8_drawOf_4 rfl ?_
  refine mg_72 5 hC dX8_drawOf_5 ?_
  refine gw_lmul 8 hC dX8_drawOf_8 ?_
  refine gw_ldc2 (v := 12345) 9 hC dX8_drawOf_9 q2569 (by decide) ?_
  refine gw_ladd 12 hC dX8_drawOf_12 ?_
  refine gw_ldc2 (v := 2147483648) 13 hC dX8_drawOf_13 q2570 (by decide) ?_
  refine gw_lrem 16 hC dX8_drawOf_16 (by decide) ?_
  obtain ⟨s2, es2, h⟩ := bnd_e h
  refine mp_72 17 hC (MIn_self o) es2 dX8_drawOf_17 ?_
  refine gw_aload_n 20 0 hC dX8_drawOf_20 rfl ?_
  refine mg_72 21 hC dX8_drawOf_21 ?_
  refine gw_ldc2 (v := 64) 24 hC dX8_drawOf_24 q2571 (by decide) ?_
  refine gw_ldiv 27 hC dX8_drawOf_27 (by decide) ?_
  refine gw_iload_n 28 1 hC dX8_drawOf_28 rfl ?_
  refine gw_i2l 29 hC dX8_drawOf_29 ?_
  obtain ⟨g3, h⟩ := gd_e h
  refine gw_lrem 30 hC dX8_drawOf_30 g3 ?_
  refine gw_l2i 31 hC dX8_drawOf_31 ?_
  exact gw_iret 32 hC dX8_drawOf_32 h
/-! spills()V -/
noncomputable def m_spills_L35 (k63 : Int → Int → Int → MS → Option (Int × MS)) : Nat → Int → Int → Int → Int → MS → Option (Int × MS)
  | 0, _, _, _, _, _ => none
  | n + 1, x1_16, x2_17, x3_18, x4_19, s20 =>
    bnd (fun (x1_25 : Int) (x2_26 : Int) (x3_27 : Int) (x4_28 : Int) (s29 : MS) =>
        bnd (x3_27 - (iand (ishr x1_25 x4_28) 1)) fun x3_30 =>
        bnd (x4_28 + 1) fun x4_31 =>
        m_spills_L35 k63 n x1_25 x2_26 x3_30 x4_31 s29) fun j32 =>
    if i32 (iand (ishr x1_16 x4_19) 1) = 0 then
      j32 x1_16 x2_17 x3_18 x4_19 s20
    else
      if i32 x3_18 ≤ 0 then
        k63 x1_16 x2_17 x4_19 s20
      else
        j32 x1_16 x2_17 x3_18 x4_19 s20
noncomputable def m_spills_L11 (k85 : MS → Option (Int × MS)) : Nat → Int → Int → MS → Option (Int × MS)
  | 0, _, _, _ => none
  | n + 1, x1_5, x2_6, s7 =>
    Option.bind (m_sayingMany s7) fun z9 =>
    if i32 z9.1 ≤ i32 x2_6 then
      k85 z9.2
    else
      if i32 x1_5 = 0 then
        k85 z9.2
      else
        Option.bind (m_bits x1_5 z9.2) fun z12 =>
        Option.bind (m_drawOf z12.1 z12.2) fun z13 =>
        bnd z13.1 fun x3_14 =>
        bnd 0 fun x4_15 =>
        m_spills_L35
          (fun (x1_35 : Int) (x2_36 : Int) (x4_37 : Int) (s38 : MS) =>
            bnd (iand x1_35 (ixor (ishl 1 x4_37) (-1))) fun x1_39 =>
            Option.bind (m_gives x2_36 x4_37 s38) fun z40 =>
            bnd (x2_36 + 1) fun x2_41 =>
            m_spills_L11 k85 n x1_39 x2_41 z40.2)
          FU x1_5 x2_6 x3_14 x4_15 z13.2
noncomputable def m_spills (s0 : MS) : Option (Int × MS) :=
  Option.bind (m_sack s0) fun z1 =>
  bnd z1.1 fun x1_2 =>
  Option.bind (m_givesNone z1.2) fun z3 =>
  bnd 0 fun x2_4 =>
  m_spills_L11
    (fun (s42 : MS) =>
      gd (ok 219 0) <|
      gd (ok 219 0) <|
      bnd (up s42 48 (i32 0) ((s42 48 (i32 0)) + 1)) fun s45 =>
      some (0, s45))
    FU x1_2 x2_4 z3.2
theorem wm_spills_L35 {p : Program} {l : Launch} {e : Env} {s : State} {m : MethodId} {args : Array Value} {below : List Frame} {meth : Method} {c : Code} {D : MD} {o : Nat} {res : Int × MS} {k63 : Int → Int → Int → MS → Option (Int × MS)} (hC : GC p s m args meth c cX8_spills RX8 5 none (MK D)) (hk63 : ∀ (x1_21 : Int) (x2_22 : Int) (x4_23 : Int) (s24 : MS), k63 x1_21 x2_22 x4_23 s24 = some res → GW p l e (rmd 6) s m args below meth c 5 (mAd o) (MRp D o) (MK D) 0 res s24 63 [(0, .ref o), (1, J x1_21), (2, J x2_22), (4, J x4_23)] []) : ∀ (n : Nat) (x1_16 : Int) (x2_17 : Int) (x3_18 : Int) (x4_19 : Int) (s20 : MS), m_spills_L35 k63 n x1_16 x2_17 x3_18 x4_19 s20 = some res → GW p l e (rmd 6) s m args below meth c 5 (mAd o) (MRp D o) (MK D) 0 res s20 35 [(0, .ref o), (1, J x1_16), (2, J x2_17), (3, J x3_18), (4, J x4_19)] [] := by
  intro n
  induction n with
  | zero =>
    intro x1_16 x2_17 x3_18 x4_19 s20 h
    cases h
  | succ n ih =>
    intro x1_16 x2_17 x3_18 x4_19 s20 h
    rw [m_spills_L35] at h
    refine gw_iload_n 35 1 hC dX8_spills_35 rfl ?_
    refine gw_iload 36 4 hC dX8_spills_36 rfl ?_
    refine gw_ishr 38 hC dX8_spills_38 ?_
    refine gw_iconst 39 hC dX8_spills_39 ?_
    refine gw_iand 40 hC dX8_spills_40 ?_
    obtain ⟨j32, ej32, h⟩ := bnd_e h
    have hj32 : ∀ (x1_25 : Int) (x2_26 : Int) (x3_27 : Int) (x4_28 : Int) (s29 : MS), j32 x1_25 x2_26 x3_27 x4_28 s29 = some res → GW p l e (rmd 6) s m args below meth c 5 (mAd o) (MRp D o) (MK D) 0 res s29 48 [(0, .ref o), (1, J x1_25), (2, J x2_26), (3, J x3_27), (4, J x4_28)] [] := by
      clear h
      intro x1_25 x2_26 x3_27 x4_28 s29 h
      subst ej32
      refine gw_iload_n 48 3 hC dX8_spills_48 rfl ?_
      refine gw_iload_n 49 1 hC dX8_spills_49 rfl ?_
      refine gw_iload 50 4 hC dX8_spills_50 rfl ?_
      refine gw_ishr 52 hC dX8_spills_52 ?_
      refine gw_iconst 53 hC dX8_spills_53 ?_
      refine gw_iand 54 hC dX8_spills_54 ?_
      refine gw_isub 55 hC dX8_spills_55 ?_
      obtain ⟨x3_30, ex3_30, h⟩ := bnd_e h
      refine gw_istore_n 56 [(3, J x3_30), (0, .ref o), (1, J x1_25), (2, J x2_26), (4, J x4_28)] hC dX8_spills_56 (by decide) ex3_30 rfl ?_
      obtain ⟨x4_31, ex4_31, h⟩ := bnd_e h
      refine gw_iinc 57 4 [(4, J x4_31), (3, J x3_30), (0, .ref o), (1, J x1_25), (2, J x2_26)] hC dX8_spills_57 rfl ex4_31 (by decide) rfl ?_
      refine gw_goto 60 35 hC dX8_spills_60 (by decide) ?_
      refine gw_sub [2, 3, 4, 1, 0] rfl ?_
      exact ih _ _ _ _ _ h
    refine gw_if_eq 41 48 hC dX8_spills_41 (by decide) (fun c33 => ?_) (fun c33 => ?_)
    · replace h := if_t h c33
      refine gw_sub [0, 1, 2, 3, 4] rfl ?_
      exact hj32 _ _ _ _ _ h
    · replace h := if_f h c33
      refine gw_iload_n 44 3 hC dX8_spills_44 rfl ?_
      refine gw_if_le 45 63 hC dX8_spills_45 (by decide) (fun c34 => ?_) (fun c34 => ?_)
      · replace h := if_t h c34
        refine gw_sub [0, 1, 2, 4] rfl ?_
        exact hk63 _ _ _ _ h
      · replace h := if_f h c34
        refine gw_sub [0, 1, 2, 3, 4] rfl ?_
        exact hj32 _ _ _ _ _ h
theorem wm_spills_L11 {p : Program} {l : Launch} {e : Env} {s : State} {m : MethodId} {args : Array Value} {below : List Frame} {meth : Method} {c : Code} {D : MD} {o : Nat} {res : Int × MS} {k85 : MS → Option (Int × MS)} (hC : GC p s m args meth c cX8_spills RX8 5 none (MK D)) (hk85 : ∀ (s8 : MS), k85 s8 = some res → GW p l e (rmd 6) s m args below meth c 5 (mAd o) (MRp D o) (MK D) 0 res s8 85 [(0, .ref o)] []) : ∀ (n : Nat) (x1_5 : Int) (x2_6 : Int) (s7 : MS), m_spills_L11 k85 n x1_5 x2_6 s7 = some res → GW p l e (rmd 6) s m args below meth c 5 (mAd o) (MRp D o) (MK D) 0 res s7 11 [(0, .ref o), (1, J x1_5), (2, J x2_6)] [] := by
  intro n
  induction n with
  | zero =>
    intro x1_5 x2_6 s7 h
    cases h
  | succ n ih =>
    intro x1_5 x2_6 s7 h
    rw [m_spills_L11] at h
    refine gw_iload_n 11 2 hC dX8_spills_11 rfl ?_
    refine gw_aload_n 12 0 hC dX8_spills_12 rfl ?_
    obtain ⟨z9, ez9, h⟩ := opt_e h
    refine gw_callV (As := []) (rest := [J x2_6]) (st' := [J z9.1, J x2_6]) 13 0 hC (met_sayingMany ez9 l) (lw_V q2278 q2280 qs96 q161 q2281) (by decide +kernel) (by decide) (m_recv hC) rfl rfl (Nat.le_of_ble_eq_true rfl) dX8_spills_13 rfl ?_
    refine gw_icmp_ge 16 85 hC dX8_spills_16 (by decide) (fun c10 => ?_) (fun c10 => ?_)
    · replace h := if_t h c10
      refine gw_sub [0] rfl ?_
      exact hk85 _ h
    · replace h := if_f h c10
      refine gw_iload_n 19 1 hC dX8_spills_19 rfl ?_
      refine gw_if_eq 20 85 hC dX8_spills_20 (by decide) (fun c11 => ?_) (fun c11 => ?_)
      · replace h := if_t h c11
        refine gw_sub [0] rfl ?_
        exact hk85 _ h
      · replace h := if_f h c11
        refine gw_aload_n 23 0 hC dX8_spills_23 rfl ?_
        refine gw_iload_n 24 1 hC dX8_spills_24 rfl ?_
        obtain ⟨z12, ez12, h⟩ := opt_e h
        refine gw_callS (As := [J x1_5]) (rest := [.ref o]) (st' := [J z12.1, .ref o]) 25 1 hC (met_bits ez12 l) (lw_S q2271 q2272 q161 q2273) (by decide +kernel) (by decide) rfl rfl (Nat.le_of_ble_eq_true rfl) dX8_spills_25 rfl ?_
        obtain ⟨z13, ez13, h⟩ := opt_e h
        refine gw_callV (As := [J z12.1]) (rest := []) (st' := [J z13.1]) 28 1 hC (met_drawOf ez13 l) (lw_V q2564 q2566 qs138 q161 q2567) (by decide +kernel) (by decide) (m_recv hC) rfl rfl (Nat.le_of_ble_eq_true rfl) dX8_spills_28 rfl ?_
        obtain ⟨x3_14, ex3_14, h⟩ := bnd_e h
        refine gw_istore_n 31 [(3, J x3_14), (0, .ref o), (1, J x1_5), (2, J x2_6)] hC dX8_spills_31 (by decide) ex3_14 rfl ?_
        refine gw_iconst 32 hC dX8_spills_32 ?_
        obtain ⟨x4_15, ex4_15, h⟩ := bnd_e h
        refine gw_istore 33 [(4, J x4_15), (3, J x3_14), (0, .ref o), (1, J x1_5), (2, J x2_6)] hC dX8_spills_33 (by decide) ex4_15 rfl ?_
        refine gw_sub [2, 3, 4, 1, 0] rfl ?_
        refine wm_spills_L35 hC (fun x1_35 x2_36 x4_37 s38 h => ?_) FU _ _ _ _ _ h
        · refine gw_iload_n 63 1 hC dX8_spills_63 rfl ?_
          refine gw_iconst 64 hC dX8_spills_64 ?_
          refine gw_iload 65 3 hC dX8_spills_65 rfl ?_
          refine gw_ishl 67 hC dX8_spills_67 ?_
          refine gw_iconst 68 hC dX8_spills_68 ?_
          refine gw_ixor 69 hC dX8_spills_69 ?_
          refine gw_iand 70 hC dX8_spills_70 ?_
          obtain ⟨x1_39, ex1_39, h⟩ := bnd_e h
          refine gw_istore_n 71 [(1, J x1_39), (0, .ref o), (2, J x2_36), (4, J x4_37)] hC dX8_spills_71 (by decide) ex1_39 rfl ?_
          refine gw_aload_n 72 1 hC dX8_spills_72 rfl ?_
          refine gw_iload_n 73 2 hC dX8_spills_73 rfl ?_
          refine gw_iload 74 3 hC dX8_spills_74 rfl ?_
          obtain ⟨z40, ez40, h⟩ := opt_e h
          refine gw_callV (As := [J x2_36, J x4_37]) (rest := []) (st' := []) 76 2 hC (met_gives ez40 l) (lw_V q2479 q2481 qs129 q161 q2482) (by decide +kernel) (by decide) (m_recv hC) rfl rfl (Nat.le_of_ble_eq_true rfl) dX8_spills_76 rfl ?_
          obtain ⟨x2_41, ex2_41, h⟩ := bnd_e h
          refine gw_iinc 79 2 [(2, J x2_41), (1, J x1_39), (0, .ref o), (4, J x4_37)] hC dX8_spills_79 rfl ex2_41 (by decide) rfl ?_
          refine gw_goto 82 11 hC dX8_spills_82 (by decide) ?_
          refine gw_sub [2, 1, 0] rfl ?_
          exact ih _ _ _ h
theorem met_spills {D : MD} {o : Nat} {s0 : MS} {res : Int × MS} (h : m_spills s0 = some res) (l : Launch) : GMet l yX8_spills cX8_spills 5 none 6 (MRp D o) (MK D) (mAd o) [.ref o] s0 0 res := by
  refine GMet.of [(0, .ref o)] (by decide) (MK_moved D) (Nat.le_of_ble_eq_true rfl) rfl ?_
  intro p e s m args below meth c hC
  have hC : GC p s m args meth c cX8_spills RX8 5 none (MK D) := hC
  unfold m_spills at h
  refine gw_aload_n 0 0 hC dX8_spills_0 rfl ?_
  obtain ⟨z1, ez1, h⟩ := opt_e h
  refine gw_callV (As := []) (rest := []) (st' := [J z1.1]) 1 0 hC (met_sack ez1 l) (lw_V q2263 q2265 qs93 q161 q2266) (by decide +kernel) (by decide) (m_recv hC) rfl rfl (Nat.le_of_ble_eq_true rfl) dX8_spills_1 rfl ?_
  obtain ⟨x1_2, ex1_2, h⟩ := bnd_e h
  refine gw_istore_n 4 [(1, J x1_2), (0, .ref o)] hC dX8_spills_4 (by decide) ex1_2 rfl ?_
  refine gw_aload_n 5 1 hC dX8_spills_5 rfl ?_
  obtain ⟨z3, ez3, h⟩ := opt_e h
  refine gw_callV (As := []) (rest := []) (st' := []) 6 0 hC (met_givesNone ez3 l) (lw_V q2475 q2477 qs128 q161 q2478) (by decide +kernel) (by decide) (m_recv hC) rfl rfl (Nat.le_of_ble_eq_true rfl) dX8_spills_6 rfl ?_
  refine gw_iconst 9 hC dX8_spills_9 ?_
  obtain ⟨x2_4, ex2_4, h⟩ := bnd_e h
  refine gw_istore_n 10 [(2, J x2_4), (1, J x1_2), (0, .ref o)] hC dX8_spills_10 (by decide) ex2_4 rfl ?_
  refine gw_sub [2, 1, 0] rfl ?_
  refine wm_spills_L11 hC (fun s42 h => ?_) FU _ _ _ h
  · refine gw_aload_n 85 0 hC dX8_spills_85 rfl ?_
    refine mg_48 86 hC dX8_spills_86 ?_
    refine gw_iconst 89 hC dX8_spills_89 ?_
    refine gw_dup2 90 hC dX8_spills_90 rfl rfl ?_
    obtain ⟨g43, h⟩ := gd_e h
    refine m_iald 91 48 hC (by decide) rfl g43 dX8_spills_91 ?_
    refine gw_iconst 92 hC dX8_spills_92 ?_
    refine gw_iadd 93 hC dX8_spills_93 ?_
    obtain ⟨g44, h⟩ := gd_e h
    obtain ⟨s45, es45, h⟩ := bnd_e h
    refine m_iast 94 48 hC (MIn_self o) (by decide) rfl g44 es45 dX8_spills_94 ?_
    exact gw_vret 95 hC dX8_spills_95 h
/-! chance(I)I -/
noncomputable def m_chance_L25 (k65 : Int → MS → Option (Int × MS)) : Nat → Int → Int → Int → MS → Option (Int × MS)
  | 0, _, _, _, _ => none
  | n + 1, x1_7, x2_8, x3_9, s10 =>
    if i32 x1_7 ≤ i32 x3_9 then
      k65 x2_8 s10
    else
      Option.bind (m_drawOf 100 s10) fun z14 =>
      gd (ok 4 3) <|
      bnd (fun (x1_16 : Int) (x2_17 : Int) (x3_18 : Int) (s19 : MS) =>
          bnd (x3_18 + 1) fun x3_20 =>
          m_chance_L25 k65 n x1_16 x2_17 x3_20 s19) fun j21 =>
      if i32 (z14.2 35 (i32 3)) ≤ i32 z14.1 then
        Option.bind (m_dayGoes z14.2) fun z23 =>
        j21 x1_7 x2_8 x3_9 z23.2
      else
        Option.bind (m_spills z14.2) fun z24 =>
        bnd (x2_8 + 1) fun x2_25 =>
        j21 x1_7 x2_25 x3_9 z24.2
noncomputable def m_chance (a1 : Int) (s0 : MS) : Option (Int × MS) :=
  Option.bind (m_isAhead a1 1 100 s0) fun z2 =>
  if i32 z2.1 = 0 then
    Option.bind (m_refuses 3 z2.2) fun z28 =>
    some (z28.1, z28.2)
  else
    Option.bind (m_keeps z2.2) fun z4 =>
    bnd 0 fun x2_5 =>
    bnd 0 fun x3_6 =>
    m_chance_L25
      (fun (x2_26 : Int) (s27 : MS) =>
        some (x2_26, s27))
      FU a1 x2_5 x3_6 z4.2
theorem wm_chance_L25 {p : Program} {l : Launch} {e : Env} {s : State} {m : MethodId} {args : Array Value} {below : List Frame} {meth : Method} {c : Code} {D : MD} {o : Nat} {res : Int × MS} {k65 : Int → MS → Option (Int × MS)} (hC : GC p s m args meth c cX8_chance RX8 4 (some .int) (MK D)) (hk65 : ∀ (x2_11 : Int) (s12 : MS), k65 x2_11 s12 = some res → GW p l e (rmd 8) s m args below meth c 4 (mAd o) (MRp D o) (MK D) 1 res s12 65 [(2, J x2_11)] []) : ∀ (n : Nat) (x1_7 : Int) (x2_8 : Int) (x3_9 : Int) (s10 : MS), m_chance_L25 k65 n x1_7 x2_8 x3_9 s10 = some res → GW p l e (rmd 8) s m args below meth c 4 (mAd o) (MRp D o) (MK D) 1 res s10 25 [(0, .ref o), (1, J x1_7), (2, J x2_8), (3, J x3_9)] [] := by
  intro n
  induction n with
  | zero =>
    intro x1_7 x2_8 x3_9 s10 h
    cases h
  | succ n ih =>
    intro x1_7 x2_8 x3_9 s10 h
    rw [m_chance_L25] at h
    refine gw_iload_n 25 3 hC dX8_chance_25 rfl ?_
    refine gw_iload_n 26 1 hC dX8_chance_26 rfl ?_
    refine gw_icmp_ge 27 65 hC dX8_chance_27 (by decide) (fun c13 => ?_) (fun c13 => ?_)
    · replace h := if_t h c13
      refine gw_sub [2] rfl ?_
      exact hk65 _ _ h
    · replace h := if_f h c13
      refine gw_aload_n 30 0 hC dX8_chance_30 rfl ?_
      refine gw_bipush 31 hC dX8_chance_31 (by decide) ?_
      obtain ⟨z14, ez14, h⟩ := opt_e h
      refine gw_callV (As := [J 100]) (rest := []) (st' := [J z14.1]) 33 1 hC (met_drawOf ez14 l) (lw_V q2564 q2566 qs138 q161 q2567) (by decide +kernel) (by decide) (m_recv hC) rfl rfl (Nat.le_of_ble_eq_true rfl) dX8_chance_33 rfl ?_
      refine gw_aload_n 36 0 hC dX8_chance_36 rfl ?_
      refine mg_35 37 hC dX8_chance_37 ?_
      refine gw_iconst 40 hC dX8_chance_40 ?_
      obtain ⟨g15, h⟩ := gd_e h
      refine m_iald 41 35 hC (by decide) rfl g15 dX8_chance_41 ?_
      obtain ⟨j21, ej21, h⟩ := bnd_e h
      have hj21 : ∀ (x1_16 : Int) (x2_17 : Int) (x3_18 : Int) (s19 : MS), j21 x1_16 x2_17 x3_18 s19 = some res → GW p l e (rmd 8) s m args below meth c 4 (mAd o) (MRp D o) (MK D) 1 res s19 59 [(0, .ref o), (1, J x1_16), (2, J x2_17), (3, J x3_18)] [] := by
        clear h
        intro x1_16 x2_17 x3_18 s19 h
        subst ej21
        obtain ⟨x3_20, ex3_20, h⟩ := bnd_e h
        refine gw_iinc 59 3 [(3, J x3_20), (0, .ref o), (1, J x1_16), (2, J x2_17)] hC dX8_chance_59 rfl ex3_20 (by decide) rfl ?_
        refine gw_goto 62 25 hC dX8_chance_62 (by decide) ?_
        refine gw_sub [1, 2, 3, 0] rfl ?_
        exact ih _ _ _ _ h
      refine gw_icmp_ge 42 55 hC dX8_chance_42 (by decide) (fun c22 => ?_) (fun c22 => ?_)
      · replace h := if_t h c22
        refine gw_aload_n 55 0 hC dX8_chance_55 rfl ?_
        obtain ⟨z23, ez23, h⟩ := opt_e h
        refine gw_callV (As := []) (rest := []) (st' := []) 56 0 hC (met_dayGoes ez23 l) (lw_V q2471 q2473 qs127 q161 q2474) (by decide +kernel) (by decide) (m_recv hC) rfl rfl (Nat.le_of_ble_eq_true rfl) dX8_chance_56 rfl ?_
        refine gw_sub [0, 1, 2, 3] rfl ?_
        exact hj21 _ _ _ _ h
      · replace h := if_f h c22
        refine gw_aload_n 45 0 hC dX8_chance_45 rfl ?_
        obtain ⟨z24, ez24, h⟩ := opt_e h
        refine gw_callV (As := []) (rest := []) (st' := []) 46 0 hC (met_spills ez24 l) (lw_V q2572 q2574 qs139 q161 q2575) (by decide +kernel) (by decide) (m_recv hC) rfl rfl (Nat.le_of_ble_eq_true rfl) dX8_chance_46 rfl ?_
        obtain ⟨x2_25, ex2_25, h⟩ := bnd_e h
        refine gw_iinc 49 2 [(2, J x2_25), (0, .ref o), (1, J x1_7), (3, J x3_9)] hC dX8_chance_49 rfl ex2_25 (by decide) rfl ?_
        refine gw_goto 52 59 hC dX8_chance_52 (by decide) ?_
        refine gw_sub [1, 2, 0, 3] rfl ?_
        exact hj21 _ _ _ _ h
theorem met_chance {D : MD} {o : Nat} {a1 : Int} {s0 : MS} {res : Int × MS} (h : m_chance a1 s0 = some res) (l : Launch) : GMet l yX8_chance cX8_chance 4 (some .int) 8 (MRp D o) (MK D) (mAd o) [.ref o, J a1] s0 1 res := by
  refine GMet.of [(0, .ref o), (1, J a1)] (by decide) (MK_moved D) (Nat.le_of_ble_eq_true rfl) rfl ?_
  intro p e s m args below meth c hC
  have hC : GC p s m args meth c cX8_chance RX8 4 (some .int) (MK D) := hC
  unfold m_chance at h
  refine gw_aload_n 0 0 hC dX8_chance_0 rfl ?_
  refine gw_iload_n 1 1 hC dX8_chance_1 rfl ?_
  refine gw_iconst 2 hC dX8_chance_2 ?_
  refine gw_bipush 3 hC dX8_chance_3 (by decide) ?_
  obtain ⟨z2, ez2, h⟩ := opt_e h
  refine gw_callV (As := [J a1, J 1, J 100]) (rest := []) (st' := [J z2.1]) 5 3 hC (met_isAhead ez2 l) (lw_V q2463 q2465 qs125 q161 q2466) (by decide +kernel) (by decide) (m_recv hC) rfl rfl (Nat.le_of_ble_eq_true rfl) dX8_chance_5 rfl ?_
  refine gw_if_ne 8 17 hC dX8_chance_8 (by decide) (fun c3 => ?_) (fun c3 => ?_)
  · replace h := if_f h c3
    refine gw_aload_n 17 0 hC dX8_chance_17 rfl ?_
    obtain ⟨z4, ez4, h⟩ := opt_e h
    refine gw_callV (As := []) (rest := []) (st' := []) 18 0 hC (met_keeps ez4 l) (lw_V q2540 q2542 qs137 q161 q2543) (by decide +kernel) (by decide) (m_recv hC) rfl rfl (Nat.le_of_ble_eq_true rfl) dX8_chance_18 rfl ?_
    refine gw_iconst 21 hC dX8_chance_21 ?_
    obtain ⟨x2_5, ex2_5, h⟩ := bnd_e h
    refine gw_istore_n 22 [(2, J x2_5), (0, .ref o), (1, J a1)] hC dX8_chance_22 (by decide) ex2_5 rfl ?_
    refine gw_iconst 23 hC dX8_chance_23 ?_
    obtain ⟨x3_6, ex3_6, h⟩ := bnd_e h
    refine gw_istore_n 24 [(3, J x3_6), (2, J x2_5), (0, .ref o), (1, J a1)] hC dX8_chance_24 (by decide) ex3_6 rfl ?_
    refine gw_sub [2, 3, 1, 0] rfl ?_
    refine wm_chance_L25 hC (fun x2_26 s27 h => ?_) FU _ _ _ _ h
    · refine gw_iload_n 65 0 hC dX8_chance_65 rfl ?_
      exact gw_iret 66 hC dX8_chance_66 h
  · replace h := if_t h c3
    refine gw_aload_n 11 0 hC dX8_chance_11 rfl ?_
    refine gw_iconst 12 hC dX8_chance_12 ?_
    obtain ⟨z28, ez28, h⟩ := opt_e h
    refine gw_callV (As := [J 3]) (rest := []) (st' := [J z28.1]) 13 1 hC (met_refuses ez28 l) (lw_V q2504 q2506 qs132 q161 q2507) (by decide +kernel) (by decide) (m_recv hC) rfl rfl (Nat.le_of_ble_eq_true rfl) dX8_chance_13 rfl ?_
    exact gw_iret 16 hC dX8_chance_16 h
/-! qKind()I -/
noncomputable def m_qKind (s0 : MS) : Option (Int × MS) :=
  Option.bind (m_takes 73 s0) fun z1 =>
  bnd (fun (w2 : Int) (s3 : MS) =>
      if i32 w2 = i32 5 then
        Option.bind (m_asks 78 s3) fun z5 =>
        some (w2, z5.2)
      else
        some (w2, s3)) fun j6 =>
  if i32 z1.1 = 0 then
    Option.bind (m_takes 74 z1.2) fun z8 =>
    if i32 z8.1 = 0 then
      Option.bind (m_takes 75 z8.2) fun z10 =>
      if i32 z10.1 = 0 then
        Option.bind (m_takes 76 z10.2) fun z12 =>
        if i32 z12.1 = 0 then
          Option.bind (m_takes 77 z12.2) fun z14 =>
          if i32 z14.1 = 0 then
            j6 5 z14.2
          else
            j6 4 z14.2
        else
          j6 3 z12.2
      else
        j6 2 z10.2
    else
      j6 1 z8.2
  else
    j6 0 z1.2
theorem met_qKind {D : MD} {o : Nat} {s0 : MS} {res : Int × MS} (h : m_qKind s0 = some res) (l : Launch) : GMet l yX8_qKind cX8_qKind 2 (some .int) 5 (MRp D o) (MK D) (mAd o) [.ref o] s0 1 res := by
  refine GMet.of [(0, .ref o)] (by decide) (MK_moved D) (Nat.le_of_ble_eq_true rfl) rfl ?_
  intro p e s m args below meth c hC
  have hC : GC p s m args meth c cX8_qKind RX8 2 (some .int) (MK D) := hC
  unfold m_qKind at h
  refine gw_aload_n 0 0 hC dX8_qKind_0 rfl ?_
  refine gw_aload_n 1 0 hC dX8_qKind_1 rfl ?_
  refine mg_73 2 hC dX8_qKind_2 ?_
  obtain ⟨z1, ez1, h⟩ := opt_e h
  refine gw_callV (As := [.ref (o + mO 73)]) (rest := []) (st' := [J z1.1]) 5 1 hC (met_takes ez1 l) (lw_V q2097 q2099 qs57 q161 q2100) (by decide +kernel) (by decide) (m_recv hC) rfl rfl (Nat.le_of_ble_eq_true rfl) dX8_qKind_5 rfl ?_
  obtain ⟨j6, ej6, h⟩ := bnd_e h
  have hj6 : ∀ (w2 : Int) (s3 : MS), j6 w2 s3 = some res → GW p l e (rmd 5) s m args below meth c 2 (mAd o) (MRp D o) (MK D) 1 res s3 76 [(0, .ref o)] [J w2] := by
    clear h
    intro w2 s3 h
    subst ej6
    refine gw_istore_n 76 [(1, J w2), (0, .ref o)] hC dX8_qKind_76 (by decide) rfl rfl ?_
    refine gw_iload_n 77 0 hC dX8_qKind_77 rfl ?_
    refine gw_iconst 78 hC dX8_qKind_78 ?_
    refine gw_icmp_ne 79 90 hC dX8_qKind_79 (by decide) (fun c4 => ?_) (fun c4 => ?_)
    · replace h := if_f h c4
      refine gw_iload_n 90 0 hC dX8_qKind_90 rfl ?_
      exact gw_iret 91 hC dX8_qKind_91 h
    · replace h := if_t h c4
      refine gw_aload_n 82 1 hC dX8_qKind_82 rfl ?_
      refine gw_aload_n 83 1 hC dX8_qKind_83 rfl ?_
      refine mg_78 84 hC dX8_qKind_84 ?_
      obtain ⟨z5, ez5, h⟩ := opt_e h
      refine gw_callV (As := [.ref (o + mO 78)]) (rest := []) (st' := []) 87 1 hC (met_asks ez5 l) (lw_V q2093 q2095 qs56 q161 q2096) (by decide +kernel) (by decide) (m_recv hC) rfl rfl (Nat.le_of_ble_eq_true rfl) dX8_qKind_87 rfl ?_
      refine gw_iload_n 90 0 hC dX8_qKind_90 rfl ?_
      exact gw_iret 91 hC dX8_qKind_91 h
  refine gw_if_eq 8 15 hC dX8_qKind_8 (by decide) (fun c7 => ?_) (fun c7 => ?_)
  · replace h := if_t h c7
    refine gw_aload_n 15 0 hC dX8_qKind_15 rfl ?_
    refine gw_aload_n 16 0 hC dX8_qKind_16 rfl ?_
    refine mg_74 17 hC dX8_qKind_17 ?_
    obtain ⟨z8, ez8, h⟩ := opt_e h
    refine gw_callV (As := [.ref (o + mO 74)]) (rest := []) (st' := [J z8.1]) 20 1 hC (met_takes ez8 l) (lw_V q2097 q2099 qs57 q161 q2100) (by decide +kernel) (by decide) (m_recv hC) rfl rfl (Nat.le_of_ble_eq_true rfl) dX8_qKind_20 rfl ?_
    refine gw_if_eq 23 30 hC dX8_qKind_23 (by decide) (fun c9 => ?_) (fun c9 => ?_)
    · replace h := if_t h c9
      refine gw_aload_n 30 0 hC dX8_qKind_30 rfl ?_
      refine gw_aload_n 31 0 hC dX8_qKind_31 rfl ?_
      refine mg_75 32 hC dX8_qKind_32 ?_
      obtain ⟨z10, ez10, h⟩ := opt_e h
      refine gw_callV (As := [.ref (o + mO 75)]) (rest := []) (st' := [J z10.1]) 35 1 hC (met_takes ez10 l) (lw_V q2097 q2099 qs57 q161 q2100) (by decide +kernel) (by decide) (m_recv hC) rfl rfl (Nat.le_of_ble_eq_true rfl) dX8_qKind_35 rfl ?_
      refine gw_if_eq 38 45 hC dX8_qKind_38 (by decide) (fun c11 => ?_) (fun c11 => ?_)
      · replace h := if_t h c11
        refine gw_aload_n 45 0 hC dX8_qKind_45 rfl ?_
        refine gw_aload_n 46 0 hC dX8_qKind_46 rfl ?_
        refine mg_76 47 hC dX8_qKind_47 ?_
        obtain ⟨z12, ez12, h⟩ := opt_e h
        refine gw_callV (As := [.ref (o + mO 76)]) (rest := []) (st' := [J z12.1]) 50 1 hC (met_takes ez12 l) (lw_V q2097 q2099 qs57 q161 q2100) (by decide +kernel) (by decide) (m_recv hC) rfl rfl (Nat.le_of_ble_eq_true rfl) dX8_qKind_50 rfl ?_
        refine gw_if_eq 53 60 hC dX8_qKind_53 (by decide) (fun c13 => ?_) (fun c13 => ?_)
        · replace h := if_t h c13
          refine gw_aload_n 60 0 hC dX8_qKind_60 rfl ?_
          refine gw_aload_n 61 0 hC dX8_qKind_61 rfl ?_
          refine mg_77 62 hC dX8_qKind_62 ?_
          obtain ⟨z14, ez14, h⟩ := opt_e h
          refine gw_callV (As := [.ref (o + mO 77)]) (rest := []) (st' := [J z14.1]) 65 1 hC (met_takes ez14 l) (lw_V q2097 q2099 qs57 q161 q2100) (by decide +kernel) (by decide) (m_recv hC) rfl rfl (Nat.le_of_ble_eq_true rfl) dX8_qKind_65 rfl ?_
          refine gw_if_eq 68 75 hC dX8_qKind_68 (by decide) (fun c15 => ?_) (fun c15 => ?_)
          · replace h := if_t h c15
            refine gw_iconst 75 hC dX8_qKind_75 ?_
            refine gw_sub [0] rfl ?_
            exact hj6 _ _ h
          · replace h := if_f h c15
            refine gw_iconst 71 hC dX8_qKind_71 ?_
            refine gw_goto 72 76 hC dX8_qKind_72 (by decide) ?_
            refine gw_sub [0] rfl ?_
            exact hj6 _ _ h
        · replace h := if_f h c13
          refine gw_iconst 56 hC dX8_qKind_56 ?_
          refine gw_goto 57 76 hC dX8_qKind_57 (by decide) ?_
          refine gw_sub [0] rfl ?_
          exact hj6 _ _ h
      · replace h := if_f h c11
        refine gw_iconst 41 hC dX8_qKind_41 ?_
        refine gw_goto 42 76 hC dX8_qKind_42 (by decide) ?_
        refine gw_sub [0] rfl ?_
        exact hj6 _ _ h
    · replace h := if_f h c9
      refine gw_iconst 26 hC dX8_qKind_26 ?_
      refine gw_goto 27 76 hC dX8_qKind_27 (by decide) ?_
      refine gw_sub [0] rfl ?_
      exact hj6 _ _ h
  · replace h := if_f h c7
    refine gw_iconst 11 hC dX8_qKind_11 ?_
    refine gw_goto 12 76 hC dX8_qKind_12 (by decide) ?_
    refine gw_sub [0] rfl ?_
    exact hj6 _ _ h
/-! qOf(IJI)J -/
noncomputable def m_qOf (a1 : Int) (a2 : Int) (a3 : Int) (s0 : MS) : Option (Int × MS) :=
  if i32 a1 = 0 then
    Option.bind (m_isVerb a2 s0) fun z5 =>
    if i32 z5.1 = 0 then
      some (0, z5.2)
    else
      Option.bind (m_givenOf a3 a2 z5.2) fun z7 =>
      some ((i32 z7.1), z7.2)
  else
    Option.bind (m_isVerb a2 s0) fun z8 =>
    if i32 z8.1 = 0 then
      some (0, z8.2)
    else
      gd (ok 42 ((7 * a3) + a2)) <|
      some ((z8.2 51 (i32 ((7 * a3) + a2))), z8.2)
theorem met_qOf {D : MD} {o : Nat} {a1 : Int} {a2 : Int} {a3 : Int} {s0 : MS} {res : Int × MS} (h : m_qOf a1 a2 a3 s0 = some res) (l : Launch) : GMet l yX8_qOf cX8_qOf 5 (some .long) 3 (MRp D o) (MK D) (mAd o) [.ref o, J a1, Lg a2, J a3] s0 2 res := by
  refine GMet.of [(0, .ref o), (1, J a1), (2, Lg a2), (4, J a3)] (by decide) (MK_moved D) (Nat.le_of_ble_eq_true rfl) rfl ?_
  intro p e s m args below meth c hC
  have hC : GC p s m args meth c cX8_qOf RX8 5 (some .long) (MK D) := hC
  unfold m_qOf at h
  refine gw_iload_n 0 1 hC dX8_qOf_0 rfl ?_
  by_cases c4 : i32 a1 = 0
  · replace h := if_t h c4
    refine gw_lookup (off := 19) 1 20 hC dX8_qOf_1 (by decide) (by rw [c4]; try rfl) (by decide) ?_
    refine gw_aload_n 20 0 hC dX8_qOf_20 rfl ?_
    refine gw_lload_n 21 2 hC dX8_qOf_21 rfl ?_
    obtain ⟨z5, ez5, h⟩ := opt_e h
    refine gw_callV (As := [Lg a2]) (rest := []) (st' := [J z5.1]) 22 1 hC (met_isVerb ez5 l) (lw_V q2389 q2391 qs118 q161 q2392) (by decide +kernel) (by decide) (m_recv hC) rfl rfl (Nat.le_of_ble_eq_true rfl) dX8_qOf_22 rfl ?_
    refine gw_if_eq 25 40 hC dX8_qOf_25 (by decide) (fun c6 => ?_) (fun c6 => ?_)
    · replace h := if_t h c6
      refine gw_lconst (v := 0) 40 hC dX8_qOf_40 (by decide) ?_
      exact gw_lret 41 hC dX8_qOf_41 h
    · replace h := if_f h c6
      refine gw_aload_n 28 0 hC dX8_qOf_28 rfl ?_
      refine gw_iload 29 3 hC dX8_qOf_29 rfl ?_
      refine gw_lload_n 31 2 hC dX8_qOf_31 rfl ?_
      refine gw_l2i 32 hC dX8_qOf_32 ?_
      obtain ⟨z7, ez7, h⟩ := opt_e h
      refine gw_callV (As := [J a3, J a2]) (rest := []) (st' := [J z7.1]) 33 2 hC (met_givenOf ez7 l) (lw_V q2282 q2284 qs97 q161 q2285) (by decide +kernel) (by decide) (m_recv hC) rfl rfl (Nat.le_of_ble_eq_true rfl) dX8_qOf_33 rfl ?_
      refine gw_i2l 36 hC dX8_qOf_36 ?_
      refine gw_goto 37 41 hC dX8_qOf_37 (by decide) ?_
      exact gw_lret 41 hC dX8_qOf_41 h
  replace h := if_f h c4
  refine gw_lookup (off := 41) 1 42 hC dX8_qOf_1 (by decide) (by simp [Op.lookupswitch.offset, c4, Ne.symm c4]) (by decide) ?_
  refine gw_aload_n 42 0 hC dX8_qOf_42 rfl ?_
  refine gw_lload_n 43 2 hC dX8_qOf_43 rfl ?_
  obtain ⟨z8, ez8, h⟩ := opt_e h
  refine gw_callV (As := [Lg a2]) (rest := []) (st' := [J z8.1]) 44 1 hC (met_isVerb ez8 l) (lw_V q2389 q2391 qs118 q161 q2392) (by decide +kernel) (by decide) (m_recv hC) rfl rfl (Nat.le_of_ble_eq_true rfl) dX8_qOf_44 rfl ?_
  refine gw_if_eq 47 66 hC dX8_qOf_47 (by decide) (fun c9 => ?_) (fun c9 => ?_)
  · replace h := if_t h c9
    refine gw_lconst (v := 0) 66 hC dX8_qOf_66 (by decide) ?_
    exact gw_lret 67 hC dX8_qOf_67 h
  · replace h := if_f h c9
    refine gw_aload_n 50 0 hC dX8_qOf_50 rfl ?_
    refine mg_51 51 hC dX8_qOf_51 ?_
    refine gw_bipush 54 hC dX8_qOf_54 (by decide) ?_
    refine gw_iload 56 3 hC dX8_qOf_56 rfl ?_
    refine gw_imul 58 hC dX8_qOf_58 ?_
    refine gw_lload_n 59 2 hC dX8_qOf_59 rfl ?_
    refine gw_l2i 60 hC dX8_qOf_60 ?_
    refine gw_iadd 61 hC dX8_qOf_61 ?_
    obtain ⟨g10, h⟩ := gd_e h
    refine m_lald 62 51 hC (by decide) rfl g10 dX8_qOf_62 ?_
    refine gw_goto 63 67 hC dX8_qOf_63 (by decide) ?_
    exact gw_lret 67 hC dX8_qOf_67 h
/-! qTold(I)J -/
noncomputable def m_qTold_L7 (k168 : MS → Option (Int × MS)) : Nat → Int → Int → MS → Option (Int × MS)
  | 0, _, _, _ => none
  | n + 1, x1_4, x2_5, s6 =>
    if i32 (s6 97 0) ≤ i32 x2_5 then
      k168 s6
    else
      gd (ok 1700 x2_5) <|
      bnd (s6 96 (i32 x2_5)) fun x3_10 =>
      bnd (fun (x1_11 : Int) (x2_12 : Int) (s13 : MS) =>
          bnd (x2_12 + 1) fun x2_14 =>
          m_qTold_L7 k168 n x1_11 x2_14 s13) fun j15 =>
      if i32 x3_10 < i32 1000 then
        if i32 x3_10 < i32 60 then
          if i32 x3_10 < i32 40 then
            if i32 x3_10 = i32 13 then
              Option.bind (m_qPuts 1 s6) fun z25 =>
              j15 x1_4 x2_5 z25.2
            else
              if i32 x3_10 = i32 12 then
                gd (ok 1700 ((s6 103 0) - 1)) <|
                gd (ok 1700 ((s6 103 0) - 1)) <|
                bnd (up s6 102 (i32 ((s6 103 0) - 1)) (1 - (s6 102 (i32 ((s6 103 0) - 1))))) fun s24 =>
                j15 x1_4 x2_5 s24
              else
                Option.bind (m_qJoins x3_10 s6) fun z21 =>
                j15 x1_4 x2_5 z21.2
          else
            Option.bind (m_qPartOf (x3_10 - 40) x1_4 s6) fun z26 =>
            Option.bind (m_qClip z26.1 z26.2) fun z27 =>
            Option.bind (m_qPuts z27.1 z27.2) fun z28 =>
            j15 x1_4 x2_5 z28.2
        else
          gd (ok 1700 ((s6 103 0) - 1)) <|
          Option.bind (m_qOf (x3_10 - 60) (s6 102 (i32 ((s6 103 0) - 1))) x1_4 s6) fun z30 =>
          Option.bind (m_qClip z30.1 z30.2) fun z31 =>
          gd (ok 1700 ((s6 103 0) - 1)) <|
          bnd (up z31.2 102 (i32 ((s6 103 0) - 1)) z31.1) fun s33 =>
          j15 x1_4 x2_5 s33
      else
        Option.bind (m_qPuts (i32 (x3_10 - 1000)) s6) fun z34 =>
        j15 x1_4 x2_5 z34.2
noncomputable def m_qTold (a1 : Int) (s0 : MS) : Option (Int × MS) :=
  bnd (up s0 103 0 0) fun s2 =>
  bnd 0 fun x2_3 =>
  m_qTold_L7
    (fun (s35 : MS) =>
      gd (ok 1700 0) <|
      some ((s35 102 (i32 0)), s35))
    FU a1 x2_3 s2
theorem wm_qTold_L7 {p : Program} {l : Launch} {e : Env} {s : State} {m : MethodId} {args : Array Value} {below : List Frame} {meth : Method} {c : Code} {D : MD} {o : Nat} {res : Int × MS} {k168 : MS → Option (Int × MS)} (hC : GC p s m args meth c cX8_qTold RX8 4 (some .long) (MK D)) (hk168 : ∀ (s7 : MS), k168 s7 = some res → GW p l e (rmd 4) s m args below meth c 4 (mAd o) (MRp D o) (MK D) 2 res s7 168 [(0, .ref o)] []) : ∀ (n : Nat) (x1_4 : Int) (x2_5 : Int) (s6 : MS), m_qTold_L7 k168 n x1_4 x2_5 s6 = some res → GW p l e (rmd 4) s m args below meth c 4 (mAd o) (MRp D o) (MK D) 2 res s6 7 [(0, .ref o), (1, J x1_4), (2, J x2_5)] [] := by
  intro n
  induction n with
  | zero =>
    intro x1_4 x2_5 s6 h
    cases h
  | succ n ih =>
    intro x1_4 x2_5 s6 h
    rw [m_qTold_L7] at h
    refine gw_iload_n 7 2 hC dX8_qTold_7 rfl ?_
    refine gw_aload_n 8 0 hC dX8_qTold_8 rfl ?_
    refine mg_97 9 hC dX8_qTold_9 ?_
    refine gw_icmp_ge 12 168 hC dX8_qTold_12 (by decide) (fun c8 => ?_) (fun c8 => ?_)
    · replace h := if_t h c8
      refine gw_sub [0] rfl ?_
      exact hk168 _ h
    · replace h := if_f h c8
      refine gw_aload_n 15 0 hC dX8_qTold_15 rfl ?_
      refine mg_96 16 hC dX8_qTold_16 ?_
      refine gw_iload_n 19 2 hC dX8_qTold_19 rfl ?_
      obtain ⟨g9, h⟩ := gd_e h
      refine m_iald 20 96 hC (by decide) rfl g9 dX8_qTold_20 ?_
      obtain ⟨x3_10, ex3_10, h⟩ := bnd_e h
      refine gw_istore_n 21 [(3, J x3_10), (0, .ref o), (1, J x1_4), (2, J x2_5)] hC dX8_qTold_21 (by decide) ex3_10 rfl ?_
      refine gw_iload_n 22 0 hC dX8_qTold_22 rfl ?_
      refine gw_sipush 23 hC dX8_qTold_23 (by decide) ?_
      obtain ⟨j15, ej15, h⟩ := bnd_e h
      have hj15 : ∀ (x1_11 : Int) (x2_12 : Int) (s13 : MS), j15 x1_11 x2_12 s13 = some res → GW p l e (rmd 4) s m args below meth c 4 (mAd o) (MRp D o) (MK D) 2 res s13 162 [(0, .ref o), (1, J x1_11), (2, J x2_12)] [] := by
        clear h
        intro x1_11 x2_12 s13 h
        subst ej15
        obtain ⟨x2_14, ex2_14, h⟩ := bnd_e h
        refine gw_iinc 162 2 [(2, J x2_14), (0, .ref o), (1, J x1_11)] hC dX8_qTold_162 rfl ex2_14 (by decide) rfl ?_
        refine gw_goto 165 7 hC dX8_qTold_165 (by decide) ?_
        refine gw_sub [1, 2, 0] rfl ?_
        exact ih _ _ _ h
      refine gw_icmp_lt 26 42 hC dX8_qTold_26 (by decide) (fun c16 => ?_) (fun c16 => ?_)
      · replace h := if_t h c16
        refine gw_iload_n 42 0 hC dX8_qTold_42 rfl ?_
        refine gw_bipush 43 hC dX8_qTold_43 (by decide) ?_
        refine gw_icmp_lt 45 85 hC dX8_qTold_45 (by decide) (fun c17 => ?_) (fun c17 => ?_)
        · replace h := if_t h c17
          refine gw_iload_n 85 0 hC dX8_qTold_85 rfl ?_
          refine gw_bipush 86 hC dX8_qTold_86 (by decide) ?_
          refine gw_icmp_lt 88 110 hC dX8_qTold_88 (by decide) (fun c18 => ?_) (fun c18 => ?_)
          · replace h := if_t h c18
            refine gw_iload_n 110 0 hC dX8_qTold_110 rfl ?_
            refine gw_bipush 111 hC dX8_qTold_111 (by decide) ?_
            refine gw_icmp_ne 113 124 hC dX8_qTold_113 (by decide) (fun c19 => ?_) (fun c19 => ?_)
            · replace h := if_f h c19
              refine gw_iload_n 124 0 hC dX8_qTold_124 rfl ?_
              refine gw_bipush 125 hC dX8_qTold_125 (by decide) ?_
              refine gw_icmp_ne 127 157 hC dX8_qTold_127 (by decide) (fun c20 => ?_) (fun c20 => ?_)
              · replace h := if_f h c20
                refine gw_aload_n 157 1 hC dX8_qTold_157 rfl ?_
                refine gw_iload_n 158 0 hC dX8_qTold_158 rfl ?_
                obtain ⟨z21, ez21, h⟩ := opt_e h
                refine gw_callV (As := [J x3_10]) (rest := []) (st' := []) 159 1 hC (met_qJoins ez21 l) (lw_V q2337 q2339 qs108 q161 q2340) (by decide +kernel) (by decide) (m_recv hC) rfl rfl (Nat.le_of_ble_eq_true rfl) dX8_qTold_159 rfl ?_
                refine gw_sub [1, 2, 3] rfl ?_
                exact hj15 _ _ _ h
              · replace h := if_t h c20
                refine gw_aload_n 130 1 hC dX8_qTold_130 rfl ?_
                refine mg_102 131 hC dX8_qTold_131 ?_
                refine gw_aload_n 134 1 hC dX8_qTold_134 rfl ?_
                refine mg_103 135 hC dX8_qTold_135 ?_
                refine gw_iconst 138 hC dX8_qTold_138 ?_
                refine gw_isub 139 hC dX8_qTold_139 ?_
                refine gw_lconst (v := 1) 140 hC dX8_qTold_140 (by decide) ?_
                refine gw_aload_n 141 1 hC dX8_qTold_141 rfl ?_
                refine mg_102 142 hC dX8_qTold_142 ?_
                refine gw_aload_n 145 1 hC dX8_qTold_145 rfl ?_
                refine mg_103 146 hC dX8_qTold_146 ?_
                refine gw_iconst 149 hC dX8_qTold_149 ?_
                refine gw_isub 150 hC dX8_qTold_150 ?_
                obtain ⟨g22, h⟩ := gd_e h
                refine m_lald 151 102 hC (by decide) rfl g22 dX8_qTold_151 ?_
                refine gw_lsub 152 hC dX8_qTold_152 ?_
                obtain ⟨g23, h⟩ := gd_e h
                obtain ⟨s24, es24, h⟩ := bnd_e h
                refine m_last 153 102 hC (MIn_self o) (by decide) rfl g23 es24 dX8_qTold_153 ?_
                refine gw_goto 154 162 hC dX8_qTold_154 (by decide) ?_
                refine gw_sub [1, 2, 3] rfl ?_
                exact hj15 _ _ _ h
            · replace h := if_t h c19
              refine gw_aload_n 116 1 hC dX8_qTold_116 rfl ?_
              refine gw_lconst (v := 1) 117 hC dX8_qTold_117 (by decide) ?_
              obtain ⟨z25, ez25, h⟩ := opt_e h
              refine gw_callV (As := [Lg 1]) (rest := []) (st' := []) 118 1 hC (met_qPuts ez25 l) (lw_V q2316 q2318 qs103 q161 q2319) (by decide +kernel) (by decide) (m_recv hC) rfl rfl (Nat.le_of_ble_eq_true rfl) dX8_qTold_118 rfl ?_
              refine gw_goto 121 162 hC dX8_qTold_121 (by decide) ?_
              refine gw_sub [1, 2, 3] rfl ?_
              exact hj15 _ _ _ h
          · replace h := if_f h c18
            refine gw_aload_n 91 1 hC dX8_qTold_91 rfl ?_
            refine gw_aload_n 92 1 hC dX8_qTold_92 rfl ?_
            refine gw_iload_n 93 0 hC dX8_qTold_93 rfl ?_
            refine gw_bipush 94 hC dX8_qTold_94 (by decide) ?_
            refine gw_isub 96 hC dX8_qTold_96 ?_
            refine gw_iload_n 97 2 hC dX8_qTold_97 rfl ?_
            obtain ⟨z26, ez26, h⟩ := opt_e h
            refine gw_callV (As := [J (x3_10 - 40), J x1_4]) (rest := [.ref o]) (st' := [Lg z26.1, .ref o]) 98 2 hC (met_qPartOf ez26 l) (lw_V q2320 q2322 qs104 q161 q2323) (by decide +kernel) (by decide) (m_recv hC) rfl rfl (Nat.le_of_ble_eq_true rfl) dX8_qTold_98 rfl ?_
            obtain ⟨z27, ez27, h⟩ := opt_e h
            refine gw_callS (As := [Lg z26.1]) (rest := [.ref o]) (st' := [Lg z27.1, .ref o]) 101 1 hC (met_qClip ez27 l) (lw_S q2341 q2342 q161 q2343) (by decide +kernel) (by decide) rfl rfl (Nat.le_of_ble_eq_true rfl) dX8_qTold_101 rfl ?_
            obtain ⟨z28, ez28, h⟩ := opt_e h
            refine gw_callV (As := [Lg z27.1]) (rest := []) (st' := []) 104 1 hC (met_qPuts ez28 l) (lw_V q2316 q2318 qs103 q161 q2319) (by decide +kernel) (by decide) (m_recv hC) rfl rfl (Nat.le_of_ble_eq_true rfl) dX8_qTold_104 rfl ?_
            refine gw_goto 107 162 hC dX8_qTold_107 (by decide) ?_
            refine gw_sub [1, 2, 3] rfl ?_
            exact hj15 _ _ _ h
        · replace h := if_f h c17
          refine gw_aload_n 48 1 hC dX8_qTold_48 rfl ?_
          refine mg_102 49 hC dX8_qTold_49 ?_
          refine gw_aload_n 52 1 hC dX8_qTold_52 rfl ?_
          refine mg_103 53 hC dX8_qTold_53 ?_
          refine gw_iconst 56 hC dX8_qTold_56 ?_
          refine gw_isub 57 hC dX8_qTold_57 ?_
          refine gw_aload_n 58 1 hC dX8_qTold_58 rfl ?_
          refine gw_iload_n 59 0 hC dX8_qTold_59 rfl ?_
          refine gw_bipush 60 hC dX8_qTold_60 (by decide) ?_
          refine gw_isub 62 hC dX8_qTold_62 ?_
          refine gw_aload_n 63 1 hC dX8_qTold_63 rfl ?_
          refine mg_102 64 hC dX8_qTold_64 ?_
          refine gw_aload_n 67 1 hC dX8_qTold_67 rfl ?_
          refine mg_103 68 hC dX8_qTold_68 ?_
          refine gw_iconst 71 hC dX8_qTold_71 ?_
          refine gw_isub 72 hC dX8_qTold_72 ?_
          obtain ⟨g29, h⟩ := gd_e h
          refine m_lald 73 102 hC (by decide) rfl g29 dX8_qTold_73 ?_
          refine gw_iload_n 74 2 hC dX8_qTold_74 rfl ?_
          obtain ⟨z30, ez30, h⟩ := opt_e h
          refine gw_callV (As := [J (x3_10 - 60), Lg (s6 102 (i32 ((s6 103 0) - 1))), J x1_4]) (rest := [J ((s6 103 0) - 1), .ref (o + mO 102)]) (st' := [Lg z30.1, J ((s6 103 0) - 1), .ref (o + mO 102)]) 75 3 hC (met_qOf ez30 l) (lw_V q2588 q2590 qs142 q161 q2591) (by decide +kernel) (by decide) (m_recv hC) rfl rfl (Nat.le_of_ble_eq_true rfl) dX8_qTold_75 rfl ?_
          obtain ⟨z31, ez31, h⟩ := opt_e h
          refine gw_callS (As := [Lg z30.1]) (rest := [J ((s6 103 0) - 1), .ref (o + mO 102)]) (st' := [Lg z31.1, J ((s6 103 0) - 1), .ref (o + mO 102)]) 78 1 hC (met_qClip ez31 l) (lw_S q2341 q2342 q161 q2343) (by decide +kernel) (by decide) rfl rfl (Nat.le_of_ble_eq_true rfl) dX8_qTold_78 rfl ?_
          obtain ⟨g32, h⟩ := gd_e h
          obtain ⟨s33, es33, h⟩ := bnd_e h
          refine m_last 81 102 hC (MIn_self o) (by decide) rfl g32 es33 dX8_qTold_81 ?_
          refine gw_goto 82 162 hC dX8_qTold_82 (by decide) ?_
          refine gw_sub [1, 2, 3] rfl ?_
          exact hj15 _ _ _ h
      · replace h := if_f h c16
        refine gw_aload_n 29 1 hC dX8_qTold_29 rfl ?_
        refine gw_iload_n 30 0 hC dX8_qTold_30 rfl ?_
        refine gw_sipush 31 hC dX8_qTold_31 (by decide) ?_
        refine gw_isub 34 hC dX8_qTold_34 ?_
        refine gw_i2l 35 hC dX8_qTold_35 ?_
        obtain ⟨z34, ez34, h⟩ := opt_e h
        refine gw_callV (As := [Lg (i32 (x3_10 - 1000))]) (rest := []) (st' := []) 36 1 hC (met_qPuts ez34 l) (lw_V q2316 q2318 qs103 q161 q2319) (by decide +kernel) (by decide) (m_recv hC) rfl rfl (Nat.le_of_ble_eq_true rfl) dX8_qTold_36 rfl ?_
        refine gw_goto 39 162 hC dX8_qTold_39 (by decide) ?_
        refine gw_sub [1, 2, 3] rfl ?_
        exact hj15 _ _ _ h
theorem met_qTold {D : MD} {o : Nat} {a1 : Int} {s0 : MS} {res : Int × MS} (h : m_qTold a1 s0 = some res) (l : Launch) : GMet l yX8_qTold cX8_qTold 4 (some .long) 4 (MRp D o) (MK D) (mAd o) [.ref o, J a1] s0 2 res := by
  refine GMet.of [(0, .ref o), (1, J a1)] (by decide) (MK_moved D) (Nat.le_of_ble_eq_true rfl) rfl ?_
  intro p e s m args below meth c hC
  have hC : GC p s m args meth c cX8_qTold RX8 4 (some .long) (MK D) := hC
  unfold m_qTold at h
  refine gw_aload_n 0 0 hC dX8_qTold_0 rfl ?_
  refine gw_iconst 1 hC dX8_qTold_1 ?_
  obtain ⟨s2, es2, h⟩ := bnd_e h
  refine mp_103 2 hC (MIn_self o) es2 dX8_qTold_2 ?_
  refine gw_iconst 5 hC dX8_qTold_5 ?_
  obtain ⟨x2_3, ex2_3, h⟩ := bnd_e h
  refine gw_istore_n 6 [(2, J x2_3), (0, .ref o), (1, J a1)] hC dX8_qTold_6 (by decide) ex2_3 rfl ?_
  refine gw_sub [1, 2, 0] rfl ?_
  refine wm_qTold_L7 hC (fun s35 h => ?_) FU _ _ _ h
  · refine gw_aload_n 168 0 hC dX8_qTold_168 rfl ?_
    refine mg_102 169 hC dX8_qTold_169 ?_
    refine gw_iconst 172 hC dX8_qTold_172 ?_
    obtain ⟨g36, h⟩ := gd_e h
    refine m_lald 173 102 hC (by decide) rfl g36 dX8_qTold_173 ?_
    exact gw_lret 174 hC dX8_qTold_174 h
/-! qTakes(IJI)V -/
noncomputable def m_qTakes (a1 : Int) (a2 : Int) (a3 : Int) (s0 : MS) : Option (Int × MS) :=
  bnd (fun (x1_4 : Int) (x2_5 : Int) (x4_6 : Int) (w7 : Int) (s8 : MS) =>
      bnd (fun (x1_9 : Int) (x2_10 : Int) (x5_11 : Int) (s12 : MS) =>
          bnd (fun (x1_13 : Int) (x2_14 : Int) (s15 : MS) =>
              bnd (fun (x1_16 : Int) (x2_17 : Int) (s18 : MS) =>
                  bnd (fun (s19 : MS) =>
                      bnd (up s19 105 0 0) fun s20 =>
                      some (0, s20)) fun j21 =>
                  if i32 x1_16 ≤ i32 3 then
                    j21 s18
                  else
                    bnd (fun (x2_23 : Int) (s24 : MS) =>
                        bnd (up s24 104 0 x2_23) fun s25 =>
                        j21 s25) fun j26 =>
                    if i32 (s18 105 0) = 0 then
                      if i32 x1_16 = i32 4 then
                        if i64 x2_17 ≤ i64 (s18 104 0) then
                          j21 s18
                        else
                          j26 x2_17 s18
                      else
                        if i64 (s18 104 0) ≤ i64 x2_17 then
                          j21 s18
                        else
                          j26 x2_17 s18
                    else
                      j26 x2_17 s18) fun j31 =>
              if i32 x1_13 = i32 3 then
                bnd (up s15 104 0 ((s15 104 0) + x2_14)) fun s33 =>
                j31 x1_13 x2_14 s33
              else
                j31 x1_13 x2_14 s15) fun j34 =>
          if i32 x1_9 = i32 2 then
            if i32 x5_11 = 0 then
              j34 x1_9 x2_10 s12
            else
              bnd (up s12 104 0 ((s12 104 0) + 1)) fun s37 =>
              j34 x1_9 x2_10 s37
          else
            j34 x1_9 x2_10 s12) fun j38 =>
      bnd (fun (x1_39 : Int) (x2_40 : Int) (x4_41 : Int) (x5_42 : Int) (s43 : MS) =>
          bnd (up s43 104 0 (i32 x4_41)) fun s44 =>
          j38 x1_39 x2_40 x5_42 s44) fun j45 =>
      bnd (fun (x1_46 : Int) (x2_47 : Int) (x4_48 : Int) (x5_49 : Int) (s50 : MS) =>
          if i32 x1_46 = i32 1 then
            if i32 x5_49 = 0 then
              j38 x1_46 x2_47 x5_49 s50
            else
              j45 x1_46 x2_47 x4_48 x5_49 s50
          else
            j38 x1_46 x2_47 x5_49 s50) fun j53 =>
      if i32 x1_4 = 0 then
        if i32 w7 = 0 then
          j53 x1_4 x2_5 x4_6 w7 s8
        else
          if i64 (s8 104 0) = i64 (-1) then
            j45 x1_4 x2_5 x4_6 w7 s8
          else
            j53 x1_4 x2_5 x4_6 w7 s8
      else
        j53 x1_4 x2_5 x4_6 w7 s8) fun j57 =>
  bnd (fun (x1_58 : Int) (x2_59 : Int) (x4_60 : Int) (s61 : MS) =>
      j57 x1_58 x2_59 x4_60 0 s61) fun j62 =>
  if i32 3 ≤ i32 a1 then
    j62 a1 a2 a3 s0
  else
    if i64 a2 = i64 1 then
      j57 a1 a2 a3 1 s0
    else
      j62 a1 a2 a3 s0
theorem met_qTakes {D : MD} {o : Nat} {a1 : Int} {a2 : Int} {a3 : Int} {s0 : MS} {res : Int × MS} (h : m_qTakes a1 a2 a3 s0 = some res) (l : Launch) : GMet l yX8_qTakes cX8_qTakes 6 none 1 (MRp D o) (MK D) (mAd o) [.ref o, J a1, Lg a2, J a3] s0 0 res := by
  refine GMet.of [(0, .ref o), (1, J a1), (2, Lg a2), (4, J a3)] (by decide) (MK_moved D) (Nat.le_of_ble_eq_true rfl) rfl ?_
  intro p e s m args below meth c hC
  have hC : GC p s m args meth c cX8_qTakes RX8 6 none (MK D) := hC
  unfold m_qTakes at h
  refine gw_iload_n 0 1 hC dX8_qTakes_0 rfl ?_
  refine gw_iconst 1 hC dX8_qTakes_1 ?_
  obtain ⟨j57, ej57, h⟩ := bnd_e h
  have hj57 : ∀ (x1_4 : Int) (x2_5 : Int) (x4_6 : Int) (w7 : Int) (s8 : MS), j57 x1_4 x2_5 x4_6 w7 s8 = some res → GW p l e (rmd 1) s m args below meth c 6 (mAd o) (MRp D o) (MK D) 0 res s8 16 [(0, .ref o), (1, J x1_4), (2, Lg x2_5), (4, J x4_6)] [J w7] := by
    clear h
    intro x1_4 x2_5 x4_6 w7 s8 h
    subst ej57
    refine gw_istore 16 [(5, J w7), (0, .ref o), (1, J x1_4), (2, Lg x2_5), (4, J x4_6)] hC dX8_qTakes_16 (by decide) rfl rfl ?_
    refine gw_iload_n 18 2 hC dX8_qTakes_18 rfl ?_
    obtain ⟨j38, ej38, h⟩ := bnd_e h
    have hj38 : ∀ (x1_9 : Int) (x2_10 : Int) (x5_11 : Int) (s12 : MS), j38 x1_9 x2_10 x5_11 s12 = some res → GW p l e (rmd 1) s m args below meth c 6 (mAd o) (MRp D o) (MK D) 0 res s12 55 [(0, .ref o), (1, J x1_9), (2, Lg x2_10), (5, J x5_11)] [] := by
      clear h
      intro x1_9 x2_10 x5_11 s12 h
      subst ej38
      refine gw_iload_n 55 1 hC dX8_qTakes_55 rfl ?_
      refine gw_iconst 56 hC dX8_qTakes_56 ?_
      obtain ⟨j34, ej34, h⟩ := bnd_e h
      have hj34 : ∀ (x1_13 : Int) (x2_14 : Int) (s15 : MS), j34 x1_13 x2_14 s15 = some res → GW p l e (rmd 1) s m args below meth c 6 (mAd o) (MRp D o) (MK D) 0 res s15 75 [(0, .ref o), (1, J x1_13), (2, Lg x2_14)] [] := by
        clear h
        intro x1_13 x2_14 s15 h
        subst ej34
        refine gw_iload_n 75 1 hC dX8_qTakes_75 rfl ?_
        refine gw_iconst 76 hC dX8_qTakes_76 ?_
        obtain ⟨j31, ej31, h⟩ := bnd_e h
        have hj31 : ∀ (x1_16 : Int) (x2_17 : Int) (s18 : MS), j31 x1_16 x2_17 s18 = some res → GW p l e (rmd 1) s m args below meth c 6 (mAd o) (MRp D o) (MK D) 0 res s18 90 [(0, .ref o), (1, J x1_16), (2, Lg x2_17)] [] := by
          clear h
          intro x1_16 x2_17 s18 h
          subst ej31
          refine gw_iload_n 90 1 hC dX8_qTakes_90 rfl ?_
          refine gw_iconst 91 hC dX8_qTakes_91 ?_
          obtain ⟨j21, ej21, h⟩ := bnd_e h
          have hj21 : ∀ (s19 : MS), j21 s19 = some res → GW p l e (rmd 1) s m args below meth c 6 (mAd o) (MRp D o) (MK D) 0 res s19 133 [(0, .ref o)] [] := by
            clear h
            intro s19 h
            subst ej21
            refine gw_aload_n 133 0 hC dX8_qTakes_133 rfl ?_
            refine gw_iconst 134 hC dX8_qTakes_134 ?_
            obtain ⟨s20, es20, h⟩ := bnd_e h
            refine mp_105 135 hC (MIn_self o) (by decide) es20 dX8_qTakes_135 ?_
            exact gw_vret 138 hC dX8_qTakes_138 h
          refine gw_icmp_le 92 133 hC dX8_qTakes_92 (by decide) (fun c22 => ?_) (fun c22 => ?_)
          · replace h := if_t h c22
            refine gw_sub [0] rfl ?_
            exact hj21 _ h
          · replace h := if_f h c22
            refine gw_aload_n 95 0 hC dX8_qTakes_95 rfl ?_
            refine mg_105 96 hC dX8_qTakes_96 ?_
            obtain ⟨j26, ej26, h⟩ := bnd_e h
            have hj26 : ∀ (x2_23 : Int) (s24 : MS), j26 x2_23 s24 = some res → GW p l e (rmd 1) s m args below meth c 6 (mAd o) (MRp D o) (MK D) 0 res s24 128 [(0, .ref o), (2, Lg x2_23)] [] := by
              clear h
              intro x2_23 s24 h
              subst ej26
              refine gw_aload_n 128 0 hC dX8_qTakes_128 rfl ?_
              refine gw_lload_n 129 1 hC dX8_qTakes_129 rfl ?_
              obtain ⟨s25, es25, h⟩ := bnd_e h
              refine mp_104 130 hC (MIn_self o) es25 dX8_qTakes_130 ?_
              refine gw_sub [0] rfl ?_
              exact hj21 _ h
            refine gw_if_ne 99 128 hC dX8_qTakes_99 (by decide) (fun c27 => ?_) (fun c27 => ?_)
            · replace h := if_f h c27
              refine gw_sub [0, 2] rfl ?_
              exact hj26 _ _ h
            · replace h := if_t h c27
              refine gw_iload_n 102 1 hC dX8_qTakes_102 rfl ?_
              refine gw_iconst 103 hC dX8_qTakes_103 ?_
              refine gw_icmp_ne 104 119 hC dX8_qTakes_104 (by decide) (fun c28 => ?_) (fun c28 => ?_)
              · replace h := if_f h c28
                refine gw_lload_n 119 2 hC dX8_qTakes_119 rfl ?_
                refine gw_aload_n 120 0 hC dX8_qTakes_120 rfl ?_
                refine mg_104 121 hC dX8_qTakes_121 ?_
                refine gw_lcmp_ge 124 133 hC dX8_qTakes_124 dX8_qTakes_125 (by decide) (fun c29 => ?_) (fun c29 => ?_)
                · replace h := if_t h c29
                  refine gw_sub [0] rfl ?_
                  exact hj21 _ h
                · replace h := if_f h c29
                  refine gw_sub [0, 2] rfl ?_
                  exact hj26 _ _ h
              · replace h := if_t h c28
                refine gw_lload_n 107 2 hC dX8_qTakes_107 rfl ?_
                refine gw_aload_n 108 0 hC dX8_qTakes_108 rfl ?_
                refine mg_104 109 hC dX8_qTakes_109 ?_
                refine gw_lcmp_le 112 133 hC dX8_qTakes_112 dX8_qTakes_113 (by decide) (fun c30 => ?_) (fun c30 => ?_)
                · replace h := if_t h c30
                  refine gw_sub [0] rfl ?_
                  exact hj21 _ h
                · replace h := if_f h c30
                  refine gw_goto 116 128 hC dX8_qTakes_116 (by decide) ?_
                  refine gw_sub [0, 2] rfl ?_
                  exact hj26 _ _ h
        refine gw_icmp_ne 77 90 hC dX8_qTakes_77 (by decide) (fun c32 => ?_) (fun c32 => ?_)
        · replace h := if_f h c32
          refine gw_sub [0, 1, 2] rfl ?_
          exact hj31 _ _ _ h
        · replace h := if_t h c32
          refine gw_aload_n 80 0 hC dX8_qTakes_80 rfl ?_
          refine gw_dup 81 hC dX8_qTakes_81 rfl ?_
          refine mg_104 82 hC dX8_qTakes_82 ?_
          refine gw_lload_n 85 2 hC dX8_qTakes_85 rfl ?_
          refine gw_ladd 86 hC dX8_qTakes_86 ?_
          obtain ⟨s33, es33, h⟩ := bnd_e h
          refine mp_104 87 hC (MIn_self o) es33 dX8_qTakes_87 ?_
          refine gw_sub [0, 1, 2] rfl ?_
          exact hj31 _ _ _ h
      refine gw_icmp_ne 57 75 hC dX8_qTakes_57 (by decide) (fun c35 => ?_) (fun c35 => ?_)
      · replace h := if_f h c35
        refine gw_sub [0, 1, 2] rfl ?_
        exact hj34 _ _ _ h
      · replace h := if_t h c35
        refine gw_iload 60 3 hC dX8_qTakes_60 rfl ?_
        refine gw_if_eq 62 75 hC dX8_qTakes_62 (by decide) (fun c36 => ?_) (fun c36 => ?_)
        · replace h := if_t h c36
          refine gw_sub [0, 1, 2] rfl ?_
          exact hj34 _ _ _ h
        · replace h := if_f h c36
          refine gw_aload_n 65 0 hC dX8_qTakes_65 rfl ?_
          refine gw_dup 66 hC dX8_qTakes_66 rfl ?_
          refine mg_104 67 hC dX8_qTakes_67 ?_
          refine gw_lconst (v := 1) 70 hC dX8_qTakes_70 (by decide) ?_
          refine gw_ladd 71 hC dX8_qTakes_71 ?_
          obtain ⟨s37, es37, h⟩ := bnd_e h
          refine mp_104 72 hC (MIn_self o) es37 dX8_qTakes_72 ?_
          refine gw_sub [0, 1, 2] rfl ?_
          exact hj34 _ _ _ h
    obtain ⟨j45, ej45, h⟩ := bnd_e h
    have hj45 : ∀ (x1_39 : Int) (x2_40 : Int) (x4_41 : Int) (x5_42 : Int) (s43 : MS), j45 x1_39 x2_40 x4_41 x5_42 s43 = some res → GW p l e (rmd 1) s m args below meth c 6 (mAd o) (MRp D o) (MK D) 0 res s43 48 [(0, .ref o), (1, J x1_39), (2, Lg x2_40), (4, J x4_41), (5, J x5_42)] [] := by
      clear h
      intro x1_39 x2_40 x4_41 x5_42 s43 h
      subst ej45
      refine gw_aload_n 48 0 hC dX8_qTakes_48 rfl ?_
      refine gw_iload 49 3 hC dX8_qTakes_49 rfl ?_
      refine gw_i2l 51 hC dX8_qTakes_51 ?_
      obtain ⟨s44, es44, h⟩ := bnd_e h
      refine mp_104 52 hC (MIn_self o) es44 dX8_qTakes_52 ?_
      refine gw_sub [0, 1, 2, 4] rfl ?_
      exact hj38 _ _ _ _ h
    obtain ⟨j53, ej53, h⟩ := bnd_e h
    have hj53 : ∀ (x1_46 : Int) (x2_47 : Int) (x4_48 : Int) (x5_49 : Int) (s50 : MS), j53 x1_46 x2_47 x4_48 x5_49 s50 = some res → GW p l e (rmd 1) s m args below meth c 6 (mAd o) (MRp D o) (MK D) 0 res s50 38 [(0, .ref o), (1, J x1_46), (2, Lg x2_47), (4, J x4_48), (5, J x5_49)] [] := by
      clear h
      intro x1_46 x2_47 x4_48 x5_49 s50 h
      subst ej53
      refine gw_iload_n 38 1 hC dX8_qTakes_38 rfl ?_
      refine gw_iconst 39 hC dX8_qTakes_39 ?_
      refine gw_icmp_ne 40 55 hC dX8_qTakes_40 (by decide) (fun c51 => ?_) (fun c51 => ?_)
      · replace h := if_f h c51
        refine gw_sub [0, 1, 2, 4] rfl ?_
        exact hj38 _ _ _ _ h
      · replace h := if_t h c51
        refine gw_iload 43 4 hC dX8_qTakes_43 rfl ?_
        refine gw_if_eq 45 55 hC dX8_qTakes_45 (by decide) (fun c52 => ?_) (fun c52 => ?_)
        · replace h := if_t h c52
          refine gw_sub [0, 1, 2, 4] rfl ?_
          exact hj38 _ _ _ _ h
        · replace h := if_f h c52
          refine gw_sub [0, 1, 2, 3, 4] rfl ?_
          exact hj45 _ _ _ _ _ h
    refine gw_if_ne 19 38 hC dX8_qTakes_19 (by decide) (fun c54 => ?_) (fun c54 => ?_)
    · replace h := if_f h c54
      refine gw_sub [1, 2, 3, 4, 0] rfl ?_
      exact hj53 _ _ _ _ _ h
    · replace h := if_t h c54
      refine gw_iload 22 0 hC dX8_qTakes_22 rfl ?_
      refine gw_if_eq 24 38 hC dX8_qTakes_24 (by decide) (fun c55 => ?_) (fun c55 => ?_)
      · replace h := if_t h c55
        refine gw_sub [1, 2, 3, 4, 0] rfl ?_
        exact hj53 _ _ _ _ _ h
      · replace h := if_f h c55
        refine gw_aload_n 27 1 hC dX8_qTakes_27 rfl ?_
        refine mg_104 28 hC dX8_qTakes_28 ?_
        refine gw_ldc2 (v := -1) 31 hC dX8_qTakes_31 q2336 (by decide) ?_
        refine gw_lcmp_eq 34 48 hC dX8_qTakes_34 dX8_qTakes_35 (by decide) (fun c56 => ?_) (fun c56 => ?_)
        · replace h := if_t h c56
          refine gw_sub [1, 2, 3, 4, 0] rfl ?_
          exact hj45 _ _ _ _ _ h
        · replace h := if_f h c56
          refine gw_sub [1, 2, 3, 4, 0] rfl ?_
          exact hj53 _ _ _ _ _ h
  obtain ⟨j62, ej62, h⟩ := bnd_e h
  have hj62 : ∀ (x1_58 : Int) (x2_59 : Int) (x4_60 : Int) (s61 : MS), j62 x1_58 x2_59 x4_60 s61 = some res → GW p l e (rmd 1) s m args below meth c 6 (mAd o) (MRp D o) (MK D) 0 res s61 15 [(0, .ref o), (1, J x1_58), (2, Lg x2_59), (4, J x4_60)] [] := by
    clear h
    intro x1_58 x2_59 x4_60 s61 h
    subst ej62
    refine gw_iconst 15 hC dX8_qTakes_15 ?_
    refine gw_sub [0, 1, 2, 3] rfl ?_
    exact hj57 _ _ _ _ _ h
  refine gw_icmp_ge 2 15 hC dX8_qTakes_2 (by decide) (fun c63 => ?_) (fun c63 => ?_)
  · replace h := if_t h c63
    refine gw_sub [0, 1, 2, 3] rfl ?_
    exact hj62 _ _ _ _ h
  · replace h := if_f h c63
    refine gw_lload_n 5 2 hC dX8_qTakes_5 rfl ?_
    refine gw_lconst (v := 1) 6 hC dX8_qTakes_6 (by decide) ?_
    refine gw_lcmp_ne 7 15 hC dX8_qTakes_7 dX8_qTakes_8 (by decide) (fun c64 => ?_) (fun c64 => ?_)
    · replace h := if_f h c64
      refine gw_sub [0, 1, 2, 3] rfl ?_
      exact hj62 _ _ _ _ h
    · replace h := if_t h c64
      refine gw_iconst 11 hC dX8_qTakes_11 ?_
      refine gw_goto 12 16 hC dX8_qTakes_12 (by decide) ?_
      refine gw_sub [0, 1, 2, 3] rfl ?_
      exact hj57 _ _ _ _ _ h
/-! ask()J -/
noncomputable def m_ask_L197 (k228 : Int → Int → MS → Option (Int × MS)) : Nat → Int → Int → Int → MS → Option (Int × MS)
  | 0, _, _, _, _ => none
  | n + 1, x1_37, x2_38, x3_39, s40 =>
    Option.bind (m_verbMany s40) fun z44 =>
    if i32 z44.1 ≤ i32 x3_39 then
      k228 x1_37 x2_38 z44.2
    else
      Option.bind (m_wellOf x2_38 x3_39 z44.2) fun z46 =>
      gd (ok 42 ((7 * x2_38) + x3_39)) <|
      bnd (up z46.2 51 (i32 ((7 * x2_38) + x3_39)) z46.1) fun s48 =>
      bnd (x3_39 + 1) fun x3_49 =>
      m_ask_L197 k228 n x1_37 x2_38 x3_49 s48
noncomputable def m_ask_L187 (k234 : Int → MS → Option (Int × MS)) : Nat → Int → Int → MS → Option (Int × MS)
  | 0, _, _, _ => none
  | n + 1, x1_29, x2_30, s31 =>
    Option.bind (m_sayingMany s31) fun z34 =>
    if i32 z34.1 ≤ i32 x2_30 then
      k234 x1_29 z34.2
    else
      bnd 0 fun x3_36 =>
      m_ask_L197
        (fun (x1_50 : Int) (x2_51 : Int) (s52 : MS) =>
          bnd (x2_51 + 1) fun x2_53 =>
          m_ask_L187 k234 n x1_50 x2_53 s52)
        FU x1_29 x2_30 x3_36 z34.2
noncomputable def m_ask_L241 (k266 : MS → Option (Int × MS)) : Nat → Int → Int → MS → Option (Int × MS)
  | 0, _, _, _ => none
  | n + 1, x1_58, x2_59, s60 =>
    Option.bind (m_sayingMany s60) fun z62 =>
    if i32 z62.1 ≤ i32 x2_59 then
      k266 z62.2
    else
      Option.bind (m_qTold x2_59 z62.2) fun z64 =>
      Option.bind (m_qTakes x1_58 z64.1 x2_59 z64.2) fun z65 =>
      bnd (x2_59 + 1) fun x2_66 =>
      m_ask_L241 k266 n x1_58 x2_66 z65.2
noncomputable def m_ask (s0 : MS) : Option (Int × MS) :=
  if i32 (s0 46 0) = 0 then
    bnd (up s0 1 0 0) fun s84 =>
    some ((-1000000000000000), s84)
  else
    bnd (up s0 3 0 (s0 1 0)) fun s2 =>
    bnd (up s2 1 0 0) fun s3 =>
    bnd (up s3 2 0 0) fun s4 =>
    bnd (up s4 4 0 (-1)) fun s5 =>
    bnd (up s5 5 0 0) fun s6 =>
    bnd (up s6 6 0 (-1)) fun s7 =>
    bnd (up s7 47 0 1) fun s8 =>
    bnd (up s8 97 0 0) fun s9 =>
    bnd (up s9 99 0 0) fun s10 =>
    bnd (up s10 100 0 0) fun s11 =>
    bnd (up s11 101 0 0) fun s12 =>
    Option.bind (m_qKind s12) fun z13 =>
    bnd z13.1 fun x1_14 =>
    bnd (fun (x1_15 : Int) (s16 : MS) =>
        bnd (fun (x1_17 : Int) (s18 : MS) =>
            bnd (up s18 7 0 (s18 5 0)) fun s19 =>
            bnd (up s19 8 0 (s19 6 0)) fun s20 =>
            if i32 (s20 5 0) = 0 then
              bnd (fun (x1_22 : Int) (w23 : Int) (s24 : MS) =>
                  bnd (up s24 104 0 w23) fun s25 =>
                  bnd (up s25 105 0 1) fun s26 =>
                  Option.bind (m_laysGiving s26) fun z27 =>
                  bnd 0 fun x2_28 =>
                  m_ask_L187
                    (fun (x1_54 : Int) (s55 : MS) =>
                      bnd (up s55 47 0 1) fun s56 =>
                      bnd 0 fun x2_57 =>
                      m_ask_L241
                        (fun (s67 : MS) =>
                          some ((s67 104 0), s67))
                        FU x1_54 x2_57 s56)
                    FU x1_22 x2_28 z27.2) fun j68 =>
              if i32 2 ≤ i32 x1_17 then
                j68 x1_17 0 s20
              else
                j68 x1_17 (-1) s20
            else
              some ((-1000000000000000), s20)) fun j70 =>
        if i32 (s16 5 0) = 0 then
          Option.bind (m_look s16) fun z72 =>
          if i32 z72.1 = i32 (-1) then
            j70 x1_15 z72.2
          else
            Option.bind (m_fail 1 (z72.2 2 0) z72.2) fun z74 =>
            j70 x1_15 z74.2
        else
          j70 x1_15 s16) fun j75 =>
    bnd (fun (x1_76 : Int) (s77 : MS) =>
        if i32 (s77 5 0) = 0 then
          Option.bind (m_qSums s77) fun z79 =>
          j75 x1_76 z79.2
        else
          j75 x1_76 s77) fun j80 =>
    if i32 (z13.2 5 0) = 0 then
      if i32 3 ≤ i32 x1_14 then
        j80 x1_14 z13.2
      else
        Option.bind (m_qTest z13.2) fun z83 =>
        j75 x1_14 z83.2
    else
      j80 x1_14 z13.2
theorem wm_ask_L197 {p : Program} {l : Launch} {e : Env} {s : State} {m : MethodId} {args : Array Value} {below : List Frame} {meth : Method} {c : Code} {D : MD} {o : Nat} {res : Int × MS} {k228 : Int → Int → MS → Option (Int × MS)} (hC : GC p s m args meth c cX8_ask RX8 4 (some .long) (MK D)) (hk228 : ∀ (x1_41 : Int) (x2_42 : Int) (s43 : MS), k228 x1_41 x2_42 s43 = some res → GW p l e (rmd 10) s m args below meth c 4 (mAd o) (MRp D o) (MK D) 2 res s43 228 [(0, .ref o), (1, J x1_41), (2, J x2_42)] []) : ∀ (n : Nat) (x1_37 : Int) (x2_38 : Int) (x3_39 : Int) (s40 : MS), m_ask_L197 k228 n x1_37 x2_38 x3_39 s40 = some res → GW p l e (rmd 10) s m args below meth c 4 (mAd o) (MRp D o) (MK D) 2 res s40 197 [(0, .ref o), (1, J x1_37), (2, J x2_38), (3, J x3_39)] [] := by
  intro n
  induction n with
  | zero =>
    intro x1_37 x2_38 x3_39 s40 h
    cases h
  | succ n ih =>
    intro x1_37 x2_38 x3_39 s40 h
    rw [m_ask_L197] at h
    refine gw_iload_n 197 3 hC dX8_ask_197 rfl ?_
    refine gw_aload_n 198 0 hC dX8_ask_198 rfl ?_
    obtain ⟨z44, ez44, h⟩ := opt_e h
    refine gw_callV (As := []) (rest := [J x3_39]) (st' := [J z44.1, J x3_39]) 199 0 hC (met_verbMany ez44 l) (lw_V q2259 q2261 qs92 q161 q2262) (by decide +kernel) (by decide) (m_recv hC) rfl rfl (Nat.le_of_ble_eq_true rfl) dX8_ask_199 rfl ?_
    refine gw_icmp_ge 202 228 hC dX8_ask_202 (by decide) (fun c45 => ?_) (fun c45 => ?_)
    · replace h := if_t h c45
      refine gw_sub [0, 1, 2] rfl ?_
      exact hk228 _ _ _ h
    · replace h := if_f h c45
      refine gw_aload_n 205 0 hC dX8_ask_205 rfl ?_
      refine mg_51 206 hC dX8_ask_206 ?_
      refine gw_bipush 209 hC dX8_ask_209 (by decide) ?_
      refine gw_iload_n 211 2 hC dX8_ask_211 rfl ?_
      refine gw_imul 212 hC dX8_ask_212 ?_
      refine gw_iload_n 213 3 hC dX8_ask_213 rfl ?_
      refine gw_iadd 214 hC dX8_ask_214 ?_
      refine gw_aload_n 215 0 hC dX8_ask_215 rfl ?_
      refine gw_iload_n 216 2 hC dX8_ask_216 rfl ?_
      refine gw_iload_n 217 3 hC dX8_ask_217 rfl ?_
      obtain ⟨z46, ez46, h⟩ := opt_e h
      refine gw_callV (As := [J x2_38, J x3_39]) (rest := [J ((7 * x2_38) + x3_39), .ref (o + mO 51)]) (st' := [Lg z46.1, J ((7 * x2_38) + x3_39), .ref (o + mO 51)]) 218 2 hC (met_wellOf ez46 l) (lw_V q2349 q2351 qs109 q161 q2352) (by decide +kernel) (by decide) (m_recv hC) rfl rfl (Nat.le_of_ble_eq_true rfl) dX8_ask_218 rfl ?_
      obtain ⟨g47, h⟩ := gd_e h
      obtain ⟨s48, es48, h⟩ := bnd_e h
      refine m_last 221 51 hC (MIn_self o) (by decide) rfl g47 es48 dX8_ask_221 ?_
      obtain ⟨x3_49, ex3_49, h⟩ := bnd_e h
      refine gw_iinc 222 3 [(3, J x3_49), (0, .ref o), (1, J x1_37), (2, J x2_38)] hC dX8_ask_222 rfl ex3_49 (by decide) rfl ?_
      refine gw_goto 225 197 hC dX8_ask_225 (by decide) ?_
      refine gw_sub [1, 2, 3, 0] rfl ?_
      exact ih _ _ _ _ h
theorem wm_ask_L187 {p : Program} {l : Launch} {e : Env} {s : State} {m : MethodId} {args : Array Value} {below : List Frame} {meth : Method} {c : Code} {D : MD} {o : Nat} {res : Int × MS} {k234 : Int → MS → Option (Int × MS)} (hC : GC p s m args meth c cX8_ask RX8 4 (some .long) (MK D)) (hk234 : ∀ (x1_32 : Int) (s33 : MS), k234 x1_32 s33 = some res → GW p l e (rmd 10) s m args below meth c 4 (mAd o) (MRp D o) (MK D) 2 res s33 234 [(0, .ref o), (1, J x1_32)] []) : ∀ (n : Nat) (x1_29 : Int) (x2_30 : Int) (s31 : MS), m_ask_L187 k234 n x1_29 x2_30 s31 = some res → GW p l e (rmd 10) s m args below meth c 4 (mAd o) (MRp D o) (MK D) 2 res s31 187 [(0, .ref o), (1, J x1_29), (2, J x2_30)] [] := by
  intro n
  induction n with
  | zero =>
    intro x1_29 x2_30 s31 h
    cases h
  | succ n ih =>
    intro x1_29 x2_30 s31 h
    rw [m_ask_L187] at h
    refine gw_iload_n 187 2 hC dX8_ask_187 rfl ?_
    refine gw_aload_n 188 0 hC dX8_ask_188 rfl ?_
    obtain ⟨z34, ez34, h⟩ := opt_e h
    refine gw_callV (As := []) (rest := [J x2_30]) (st' := [J z34.1, J x2_30]) 189 0 hC (met_sayingMany ez34 l) (lw_V q2278 q2280 qs96 q161 q2281) (by decide +kernel) (by decide) (m_recv hC) rfl rfl (Nat.le_of_ble_eq_true rfl) dX8_ask_189 rfl ?_
    refine gw_icmp_ge 192 234 hC dX8_ask_192 (by decide) (fun c35 => ?_) (fun c35 => ?_)
    · replace h := if_t h c35
      refine gw_sub [0, 1] rfl ?_
      exact hk234 _ _ h
    · replace h := if_f h c35
      refine gw_iconst 195 hC dX8_ask_195 ?_
      obtain ⟨x3_36, ex3_36, h⟩ := bnd_e h
      refine gw_istore_n 196 [(3, J x3_36), (0, .ref o), (1, J x1_29), (2, J x2_30)] hC dX8_ask_196 (by decide) ex3_36 rfl ?_
      refine gw_sub [1, 2, 3, 0] rfl ?_
      refine wm_ask_L197 hC (fun x1_50 x2_51 s52 h => ?_) FU _ _ _ _ h
      · obtain ⟨x2_53, ex2_53, h⟩ := bnd_e h
        refine gw_iinc 228 2 [(2, J x2_53), (0, .ref o), (1, J x1_50)] hC dX8_ask_228 rfl ex2_53 (by decide) rfl ?_
        refine gw_goto 231 187 hC dX8_ask_231 (by decide) ?_
        refine gw_sub [1, 2, 0] rfl ?_
        exact ih _ _ _ h
theorem wm_ask_L241 {p : Program} {l : Launch} {e : Env} {s : State} {m : MethodId} {args : Array Value} {below : List Frame} {meth : Method} {c : Code} {D : MD} {o : Nat} {res : Int × MS} {k266 : MS → Option (Int × MS)} (hC : GC p s m args meth c cX8_ask RX8 4 (some .long) (MK D)) (hk266 : ∀ (s61 : MS), k266 s61 = some res → GW p l e (rmd 10) s m args below meth c 4 (mAd o) (MRp D o) (MK D) 2 res s61 266 [(0, .ref o)] []) : ∀ (n : Nat) (x1_58 : Int) (x2_59 : Int) (s60 : MS), m_ask_L241 k266 n x1_58 x2_59 s60 = some res → GW p l e (rmd 10) s m args below meth c 4 (mAd o) (MRp D o) (MK D) 2 res s60 241 [(0, .ref o), (1, J x1_58), (2, J x2_59)] [] := by
  intro n
  induction n with
  | zero =>
    intro x1_58 x2_59 s60 h
    cases h
  | succ n ih =>
    intro x1_58 x2_59 s60 h
    rw [m_ask_L241] at h
    refine gw_iload_n 241 2 hC dX8_ask_241 rfl ?_
    refine gw_aload_n 242 0 hC dX8_ask_242 rfl ?_
    obtain ⟨z62, ez62, h⟩ := opt_e h
    refine gw_callV (As := []) (rest := [J x2_59]) (st' := [J z62.1, J x2_59]) 243 0 hC (met_sayingMany ez62 l) (lw_V q2278 q2280 qs96 q161 q2281) (by decide +kernel) (by decide) (m_recv hC) rfl rfl (Nat.le_of_ble_eq_true rfl) dX8_ask_243 rfl ?_
    refine gw_icmp_ge 246 266 hC dX8_ask_246 (by decide) (fun c63 => ?_) (fun c63 => ?_)
    · replace h := if_t h c63
      refine gw_sub [0] rfl ?_
      exact hk266 _ h
    · replace h := if_f h c63
      refine gw_aload_n 249 0 hC dX8_ask_249 rfl ?_
      refine gw_iload_n 250 1 hC dX8_ask_250 rfl ?_
      refine gw_aload_n 251 0 hC dX8_ask_251 rfl ?_
      refine gw_iload_n 252 2 hC dX8_ask_252 rfl ?_
      obtain ⟨z64, ez64, h⟩ := opt_e h
      refine gw_callV (As := [J x2_59]) (rest := [J x1_58, .ref o]) (st' := [Lg z64.1, J x1_58, .ref o]) 253 1 hC (met_qTold ez64 l) (lw_V q2584 q2586 qs141 q161 q2587) (by decide +kernel) (by decide) (m_recv hC) rfl rfl (Nat.le_of_ble_eq_true rfl) dX8_ask_253 rfl ?_
      refine gw_iload_n 256 2 hC dX8_ask_256 rfl ?_
      obtain ⟨z65, ez65, h⟩ := opt_e h
      refine gw_callV (As := [J x1_58, Lg z64.1, J x2_59]) (rest := []) (st' := []) 257 3 hC (met_qTakes ez65 l) (lw_V q2592 q2594 qs143 q161 q2595) (by decide +kernel) (by decide) (m_recv hC) rfl rfl (Nat.le_of_ble_eq_true rfl) dX8_ask_257 rfl ?_
      obtain ⟨x2_66, ex2_66, h⟩ := bnd_e h
      refine gw_iinc 260 2 [(2, J x2_66), (0, .ref o), (1, J x1_58)] hC dX8_ask_260 rfl ex2_66 (by decide) rfl ?_
      refine gw_goto 263 241 hC dX8_ask_263 (by decide) ?_
      refine gw_sub [1, 2, 0] rfl ?_
      exact ih _ _ _ h
theorem met_ask {D : MD} {o : Nat} {s0 : MS} {res : Int × MS} (h : m_ask s0 = some res) (l : Launch) : GMet l yX8_ask cX8_ask 4 (some .long) 10 (MRp D o) (MK D) (mAd o) [.ref o] s0 2 res := by
  refine GMet.of [(0, .ref o)] (by decide) (MK_moved D) (Nat.le_of_ble_eq_true rfl) rfl ?_
  intro p e s m args below meth c hC
  have hC : GC p s m args meth c cX8_ask RX8 4 (some .long) (MK D) := hC
  unfold m_ask at h
  refine gw_aload_n 0 0 hC dX8_ask_0 rfl ?_
  refine mg_46 1 hC dX8_ask_1 ?_
  refine gw_if_ne 4 16 hC dX8_ask_4 (by decide) (fun c1 => ?_) (fun c1 => ?_)
  · replace h := if_f h c1
    refine gw_aload_n 16 0 hC dX8_ask_16 rfl ?_
    refine gw_aload_n 17 0 hC dX8_ask_17 rfl ?_
    refine mg_1 18 hC dX8_ask_18 ?_
    obtain ⟨s2, es2, h⟩ := bnd_e h
    refine mp_3 21 hC (MIn_self o) es2 dX8_ask_21 ?_
    refine gw_aload_n 24 0 hC dX8_ask_24 rfl ?_
    refine gw_iconst 25 hC dX8_ask_25 ?_
    obtain ⟨s3, es3, h⟩ := bnd_e h
    refine mp_1 26 hC (MIn_self o) es3 dX8_ask_26 ?_
    refine gw_aload_n 29 0 hC dX8_ask_29 rfl ?_
    refine gw_iconst 30 hC dX8_ask_30 ?_
    obtain ⟨s4, es4, h⟩ := bnd_e h
    refine mp_2 31 hC (MIn_self o) es4 dX8_ask_31 ?_
    refine gw_aload_n 34 0 hC dX8_ask_34 rfl ?_
    refine gw_iconst 35 hC dX8_ask_35 ?_
    obtain ⟨s5, es5, h⟩ := bnd_e h
    refine mp_4 36 hC (MIn_self o) es5 dX8_ask_36 ?_
    refine gw_aload_n 39 0 hC dX8_ask_39 rfl ?_
    refine gw_iconst 40 hC dX8_ask_40 ?_
    obtain ⟨s6, es6, h⟩ := bnd_e h
    refine mp_5 41 hC (MIn_self o) es6 dX8_ask_41 ?_
    refine gw_aload_n 44 0 hC dX8_ask_44 rfl ?_
    refine gw_iconst 45 hC dX8_ask_45 ?_
    obtain ⟨s7, es7, h⟩ := bnd_e h
    refine mp_6 46 hC (MIn_self o) es7 dX8_ask_46 ?_
    refine gw_aload_n 49 0 hC dX8_ask_49 rfl ?_
    refine gw_iconst 50 hC dX8_ask_50 ?_
    obtain ⟨s8, es8, h⟩ := bnd_e h
    refine mp_47 51 hC (MIn_self o) es8 dX8_ask_51 ?_
    refine gw_aload_n 54 0 hC dX8_ask_54 rfl ?_
    refine gw_iconst 55 hC dX8_ask_55 ?_
    obtain ⟨s9, es9, h⟩ := bnd_e h
    refine mp_97 56 hC (MIn_self o) es9 dX8_ask_56 ?_
    refine gw_aload_n 59 0 hC dX8_ask_59 rfl ?_
    refine gw_iconst 60 hC dX8_ask_60 ?_
    obtain ⟨s10, es10, h⟩ := bnd_e h
    refine mp_99 61 hC (MIn_self o) es10 dX8_ask_61 ?_
    refine gw_aload_n 64 0 hC dX8_ask_64 rfl ?_
    refine gw_iconst 65 hC dX8_ask_65 ?_
    obtain ⟨s11, es11, h⟩ := bnd_e h
    refine mp_100 66 hC (MIn_self o) es11 dX8_ask_66 ?_
    refine gw_aload_n 69 0 hC dX8_ask_69 rfl ?_
    refine gw_iconst 70 hC dX8_ask_70 ?_
    obtain ⟨s12, es12, h⟩ := bnd_e h
    refine mp_101 71 hC (MIn_self o) es12 dX8_ask_71 ?_
    refine gw_aload_n 74 0 hC dX8_ask_74 rfl ?_
    obtain ⟨z13, ez13, h⟩ := opt_e h
    refine gw_callV (As := []) (rest := []) (st' := [J z13.1]) 75 0 hC (met_qKind ez13 l) (lw_V q2580 q2582 qs140 q161 q2583) (by decide +kernel) (by decide) (m_recv hC) rfl rfl (Nat.le_of_ble_eq_true rfl) dX8_ask_75 rfl ?_
    obtain ⟨x1_14, ex1_14, h⟩ := bnd_e h
    refine gw_istore_n 78 [(1, J x1_14), (0, .ref o)] hC dX8_ask_78 (by decide) ex1_14 rfl ?_
    refine gw_aload_n 79 1 hC dX8_ask_79 rfl ?_
    refine mg_5 80 hC dX8_ask_80 ?_
    obtain ⟨j75, ej75, h⟩ := bnd_e h
    have hj75 : ∀ (x1_15 : Int) (s16 : MS), j75 x1_15 s16 = some res → GW p l e (rmd 10) s m args below meth c 4 (mAd o) (MRp D o) (MK D) 2 res s16 109 [(0, .ref o), (1, J x1_15)] [] := by
      clear h
      intro x1_15 s16 h
      subst ej75
      refine gw_aload_n 109 0 hC dX8_ask_109 rfl ?_
      refine mg_5 110 hC dX8_ask_110 ?_
      obtain ⟨j70, ej70, h⟩ := bnd_e h
      have hj70 : ∀ (x1_17 : Int) (s18 : MS), j70 x1_17 s18 = some res → GW p l e (rmd 10) s m args below meth c 4 (mAd o) (MRp D o) (MK D) 2 res s18 133 [(0, .ref o), (1, J x1_17)] [] := by
        clear h
        intro x1_17 s18 h
        subst ej70
        refine gw_aload_n 133 0 hC dX8_ask_133 rfl ?_
        refine gw_aload_n 134 0 hC dX8_ask_134 rfl ?_
        refine mg_5 135 hC dX8_ask_135 ?_
        obtain ⟨s19, es19, h⟩ := bnd_e h
        refine mp_7 138 hC (MIn_self o) es19 dX8_ask_138 ?_
        refine gw_aload_n 141 0 hC dX8_ask_141 rfl ?_
        refine gw_aload_n 142 0 hC dX8_ask_142 rfl ?_
        refine mg_6 143 hC dX8_ask_143 ?_
        obtain ⟨s20, es20, h⟩ := bnd_e h
        refine mp_8 146 hC (MIn_self o) es20 dX8_ask_146 ?_
        refine gw_aload_n 149 0 hC dX8_ask_149 rfl ?_
        refine mg_5 150 hC dX8_ask_150 ?_
        refine gw_if_eq 153 160 hC dX8_ask_153 (by decide) (fun c21 => ?_) (fun c21 => ?_)
        · replace h := if_t h c21
          refine gw_aload_n 160 0 hC dX8_ask_160 rfl ?_
          refine gw_iload_n 161 1 hC dX8_ask_161 rfl ?_
          refine gw_iconst 162 hC dX8_ask_162 ?_
          obtain ⟨j68, ej68, h⟩ := bnd_e h
          have hj68 : ∀ (x1_22 : Int) (w23 : Int) (s24 : MS), j68 x1_22 w23 s24 = some res → GW p l e (rmd 10) s m args below meth c 4 (mAd o) (MRp D o) (MK D) 2 res s24 173 [(0, .ref o), (1, J x1_22)] [Lg w23, .ref o] := by
            clear h
            intro x1_22 w23 s24 h
            subst ej68
            obtain ⟨s25, es25, h⟩ := bnd_e h
            refine mp_104 173 hC (MIn_self o) es25 dX8_ask_173 ?_
            refine gw_aload_n 176 0 hC dX8_ask_176 rfl ?_
            refine gw_iconst 177 hC dX8_ask_177 ?_
            obtain ⟨s26, es26, h⟩ := bnd_e h
            refine mp_105 178 hC (MIn_self o) (by decide) es26 dX8_ask_178 ?_
            refine gw_aload_n 181 0 hC dX8_ask_181 rfl ?_
            obtain ⟨z27, ez27, h⟩ := opt_e h
            refine gw_callV (As := []) (rest := []) (st' := []) 182 0 hC (met_laysGiving ez27 l) (lw_V q2300 q2302 qs99 q161 q2303) (by decide +kernel) (by decide) (m_recv hC) rfl rfl (Nat.le_of_ble_eq_true rfl) dX8_ask_182 rfl ?_
            refine gw_iconst 185 hC dX8_ask_185 ?_
            obtain ⟨x2_28, ex2_28, h⟩ := bnd_e h
            refine gw_istore_n 186 [(2, J x2_28), (0, .ref o), (1, J x1_22)] hC dX8_ask_186 (by decide) ex2_28 rfl ?_
            refine gw_sub [1, 2, 0] rfl ?_
            refine wm_ask_L187 hC (fun x1_54 s55 h => ?_) FU _ _ _ h
            · refine gw_aload_n 234 0 hC dX8_ask_234 rfl ?_
              refine gw_iconst 235 hC dX8_ask_235 ?_
              obtain ⟨s56, es56, h⟩ := bnd_e h
              refine mp_47 236 hC (MIn_self o) es56 dX8_ask_236 ?_
              refine gw_iconst 239 hC dX8_ask_239 ?_
              obtain ⟨x2_57, ex2_57, h⟩ := bnd_e h
              refine gw_istore_n 240 [(2, J x2_57), (0, .ref o), (1, J x1_54)] hC dX8_ask_240 (by decide) ex2_57 rfl ?_
              refine gw_sub [1, 2, 0] rfl ?_
              refine wm_ask_L241 hC (fun s67 h => ?_) FU _ _ _ h
              · refine gw_aload_n 266 0 hC dX8_ask_266 rfl ?_
                refine mg_104 267 hC dX8_ask_267 ?_
                exact gw_lret 270 hC dX8_ask_270 h
          refine gw_icmp_ge 163 172 hC dX8_ask_163 (by decide) (fun c69 => ?_) (fun c69 => ?_)
          · replace h := if_t h c69
            refine gw_lconst (v := 0) 172 hC dX8_ask_172 (by decide) ?_
            refine gw_sub [0, 1] rfl ?_
            exact hj68 _ _ _ h
          · replace h := if_f h c69
            refine gw_ldc2 (v := -1) 166 hC dX8_ask_166 q2336 (by decide) ?_
            refine gw_goto 169 173 hC dX8_ask_169 (by decide) ?_
            refine gw_sub [0, 1] rfl ?_
            exact hj68 _ _ _ h
        · replace h := if_f h c21
          refine gw_ldc2 (v := -1000000000000000) 156 hC dX8_ask_156 q2401 (by decide) ?_
          exact gw_lret 159 hC dX8_ask_159 h
      refine gw_if_ne 113 133 hC dX8_ask_113 (by decide) (fun c71 => ?_) (fun c71 => ?_)
      · replace h := if_f h c71
        refine gw_sub [0, 1] rfl ?_
        exact hj70 _ _ h
      · replace h := if_t h c71
        refine gw_aload_n 116 0 hC dX8_ask_116 rfl ?_
        obtain ⟨z72, ez72, h⟩ := opt_e h
        refine gw_callV (As := []) (rest := []) (st' := [J z72.1]) 117 0 hC (met_look ez72 l) (lw_V q2105 q2107 qs59 q161 q2108) (by decide +kernel) (by decide) (m_recv hC) rfl rfl (Nat.le_of_ble_eq_true rfl) dX8_ask_117 rfl ?_
        refine gw_iconst 120 hC dX8_ask_120 ?_
        refine gw_icmp_eq 121 133 hC dX8_ask_121 (by decide) (fun c73 => ?_) (fun c73 => ?_)
        · replace h := if_t h c73
          refine gw_sub [0, 1] rfl ?_
          exact hj70 _ _ h
        · replace h := if_f h c73
          refine gw_aload_n 124 0 hC dX8_ask_124 rfl ?_
          refine gw_iconst 125 hC dX8_ask_125 ?_
          refine gw_aload_n 126 0 hC dX8_ask_126 rfl ?_
          refine mg_2 127 hC dX8_ask_127 ?_
          obtain ⟨z74, ez74, h⟩ := opt_e h
          refine gw_callV (As := [J 1, J (z72.2 2 0)]) (rest := []) (st' := []) 130 2 hC (met_fail ez74 l) (lw_V q2112 q2114 qs60 q161 q2115) (by decide +kernel) (by decide) (m_recv hC) rfl rfl (Nat.le_of_ble_eq_true rfl) dX8_ask_130 rfl ?_
          refine gw_sub [0, 1] rfl ?_
          exact hj70 _ _ h
    obtain ⟨j80, ej80, h⟩ := bnd_e h
    have hj80 : ∀ (x1_76 : Int) (s77 : MS), j80 x1_76 s77 = some res → GW p l e (rmd 10) s m args below meth c 4 (mAd o) (MRp D o) (MK D) 2 res s77 98 [(0, .ref o), (1, J x1_76)] [] := by
      clear h
      intro x1_76 s77 h
      subst ej80
      refine gw_aload_n 98 0 hC dX8_ask_98 rfl ?_
      refine mg_5 99 hC dX8_ask_99 ?_
      refine gw_if_ne 102 109 hC dX8_ask_102 (by decide) (fun c78 => ?_) (fun c78 => ?_)
      · replace h := if_f h c78
        refine gw_sub [0, 1] rfl ?_
        exact hj75 _ _ h
      · replace h := if_t h c78
        refine gw_aload_n 105 0 hC dX8_ask_105 rfl ?_
        obtain ⟨z79, ez79, h⟩ := opt_e h
        refine gw_callV (As := []) (rest := []) (st' := []) 106 0 hC (met_qSums ez79 l) (lw_V q2184 q2186 qs76 q161 q2187) (by decide +kernel) (by decide) (m_recv hC) rfl rfl (Nat.le_of_ble_eq_true rfl) dX8_ask_106 rfl ?_
        refine gw_sub [0, 1] rfl ?_
        exact hj75 _ _ h
    refine gw_if_ne 83 98 hC dX8_ask_83 (by decide) (fun c81 => ?_) (fun c81 => ?_)
    · replace h := if_f h c81
      refine gw_sub [1, 0] rfl ?_
      exact hj80 _ _ h
    · replace h := if_t h c81
      refine gw_iload_n 86 0 hC dX8_ask_86 rfl ?_
      refine gw_iconst 87 hC dX8_ask_87 ?_
      refine gw_icmp_ge 88 98 hC dX8_ask_88 (by decide) (fun c82 => ?_) (fun c82 => ?_)
      · replace h := if_t h c82
        refine gw_sub [1, 0] rfl ?_
        exact hj80 _ _ h
      · replace h := if_f h c82
        refine gw_aload_n 91 1 hC dX8_ask_91 rfl ?_
        obtain ⟨z83, ez83, h⟩ := opt_e h
        refine gw_callV (As := []) (rest := []) (st' := []) 92 0 hC (met_qTest ez83 l) (lw_V q2168 q2170 qs72 q161 q2171) (by decide +kernel) (by decide) (m_recv hC) rfl rfl (Nat.le_of_ble_eq_true rfl) dX8_ask_92 rfl ?_
        refine gw_goto 95 109 hC dX8_ask_95 (by decide) ?_
        refine gw_sub [1, 0] rfl ?_
        exact hj75 _ _ h
  · replace h := if_t h c1
    refine gw_aload_n 7 0 hC dX8_ask_7 rfl ?_
    refine gw_iconst 8 hC dX8_ask_8 ?_
    obtain ⟨s84, es84, h⟩ := bnd_e h
    refine mp_1 9 hC (MIn_self o) es84 dX8_ask_9 ?_
    refine gw_ldc2 (v := -1000000000000000) 12 hC dX8_ask_12 q2401 (by decide) ?_
    exact gw_lret 15 hC dX8_ask_15 h
/-! writes(I)V -/
noncomputable def m_writes (a1 : Int) (s0 : MS) : Option (Int × MS) :=
  gd (ok 70 (s0 107 0)) <|
  bnd (up s0 106 (i32 (s0 107 0)) a1) fun s3 =>
  bnd (up s3 107 0 ((s3 107 0) + 1)) fun s4 =>
  some (0, s4)
theorem met_writes {D : MD} {o : Nat} {a1 : Int} {s0 : MS} {res : Int × MS} (h : m_writes a1 s0 = some res) (l : Launch) : GMet l yX8_writes cX8_writes 2 none 1 (MRp D o) (MK D) (mAd o) [.ref o, J a1] s0 0 res := by
  refine GMet.of [(0, .ref o), (1, J a1)] (by decide) (MK_moved D) (Nat.le_of_ble_eq_true rfl) rfl ?_
  intro p e s m args below meth c hC
  have hC : GC p s m args meth c cX8_writes RX8 2 none (MK D) := hC
  unfold m_writes at h
  refine gw_aload_n 0 0 hC dX8_writes_0 rfl ?_
  refine mg_106 1 hC dX8_writes_1 ?_
  refine gw_aload_n 4 0 hC dX8_writes_4 rfl ?_
  refine mg_107 5 hC dX8_writes_5 ?_
  refine gw_iload_n 8 1 hC dX8_writes_8 rfl ?_
  obtain ⟨g2, h⟩ := gd_e h
  obtain ⟨s3, es3, h⟩ := bnd_e h
  refine m_iast 9 106 hC (MIn_self o) (by decide) rfl g2 es3 dX8_writes_9 ?_
  refine gw_aload_n 10 0 hC dX8_writes_10 rfl ?_
  refine gw_dup 11 hC dX8_writes_11 rfl ?_
  refine mg_107 12 hC dX8_writes_12 ?_
  refine gw_iconst 15 hC dX8_writes_15 ?_
  refine gw_iadd 16 hC dX8_writes_16 ?_
  obtain ⟨s4, es4, h⟩ := bnd_e h
  refine mp_107 17 hC (MIn_self o) es4 dX8_writes_17 ?_
  exact gw_vret 20 hC dX8_writes_20 h
/-! checked([II)I -/
noncomputable def m_checked_L6 (k29 : Int → MS → Option (Int × MS)) : Nat → Nat → Int → Int → Int → MS → Option (Int × MS)
  | 0, _, _, _, _, _ => none
  | n + 1, x0_5, x1_6, x2_7, x3_8, s9 =>
    if i32 x1_6 ≤ i32 x3_8 then
      k29 x2_7 s9
    else
      gd (x0_5 < 108 ∧ mK x0_5 = 10) <|
      gd (ok (mN x0_5) x3_8) <|
      bnd (irem ((3 * x2_7) + (s9 x0_5 (i32 x3_8))) 251) fun x2_15 =>
      bnd (x3_8 + 1) fun x3_16 =>
      m_checked_L6 k29 n x0_5 x1_6 x2_15 x3_16 s9
noncomputable def m_checked (a1 : Nat) (a2 : Int) (s0 : MS) : Option (Int × MS) :=
  bnd 163 fun x2_3 =>
  bnd 0 fun x3_4 =>
  m_checked_L6
    (fun (x2_17 : Int) (s18 : MS) =>
      some (x2_17, s18))
    FU a1 a2 x2_3 x3_4 s0
theorem wm_checked_L6 {p : Program} {l : Launch} {e : Env} {s : State} {m : MethodId} {args : Array Value} {below : List Frame} {meth : Method} {c : Code} {D : MD} {o : Nat} {res : Int × MS} {k29 : Int → MS → Option (Int × MS)} (hC : GC p s m args meth c cX8_checked RX8 4 (some .int) (MK D)) (hk29 : ∀ (x2_10 : Int) (s11 : MS), k29 x2_10 s11 = some res → GW p l e (rmd 1) s m args below meth c 4 (mAd o) (MRp D o) (MK D) 1 res s11 29 [(2, J x2_10)] []) : ∀ (n : Nat) (x0_5 : Nat) (x1_6 : Int) (x2_7 : Int) (x3_8 : Int) (s9 : MS), m_checked_L6 k29 n x0_5 x1_6 x2_7 x3_8 s9 = some res → GW p l e (rmd 1) s m args below meth c 4 (mAd o) (MRp D o) (MK D) 1 res s9 6 [(0, .ref (o + mO x0_5)), (1, J x1_6), (2, J x2_7), (3, J x3_8)] [] := by
  intro n
  induction n with
  | zero =>
    intro x0_5 x1_6 x2_7 x3_8 s9 h
    cases h
  | succ n ih =>
    intro x0_5 x1_6 x2_7 x3_8 s9 h
    rw [m_checked_L6] at h
    refine gw_iload_n 6 3 hC dX8_checked_6 rfl ?_
    refine gw_iload_n 7 1 hC dX8_checked_7 rfl ?_
    refine gw_icmp_ge 8 29 hC dX8_checked_8 (by decide) (fun c12 => ?_) (fun c12 => ?_)
    · replace h := if_t h c12
      refine gw_sub [2] rfl ?_
      exact hk29 _ _ h
    · replace h := if_f h c12
      refine gw_iconst 11 hC dX8_checked_11 ?_
      refine gw_iload_n 12 2 hC dX8_checked_12 rfl ?_
      refine gw_imul 13 hC dX8_checked_13 ?_
      refine gw_aload_n 14 0 hC dX8_checked_14 rfl ?_
      refine gw_iload_n 15 3 hC dX8_checked_15 rfl ?_
      obtain ⟨g13, h⟩ := gd_e h
      obtain ⟨g14, h⟩ := gd_e h
      refine m_iald 16 x0_5 hC g13.1 g13.2 g14 dX8_checked_16 ?_
      refine gw_iadd 17 hC dX8_checked_17 ?_
      refine gw_sipush 18 hC dX8_checked_18 (by decide) ?_
      refine gw_irem 21 hC dX8_checked_21 (by decide) ?_
      obtain ⟨x2_15, ex2_15, h⟩ := bnd_e h
      refine gw_istore_n 22 [(2, J x2_15), (0, .ref (o + mO x0_5)), (1, J x1_6), (3, J x3_8)] hC dX8_checked_22 (by decide) ex2_15 rfl ?_
      obtain ⟨x3_16, ex3_16, h⟩ := bnd_e h
      refine gw_iinc 23 3 [(3, J x3_16), (2, J x2_15), (0, .ref (o + mO x0_5)), (1, J x1_6)] hC dX8_checked_23 rfl ex3_16 (by decide) rfl ?_
      refine gw_goto 26 6 hC dX8_checked_26 (by decide) ?_
      refine gw_sub [2, 3, 1, 0] rfl ?_
      exact ih _ _ _ _ _ h
theorem met_checked {D : MD} {o : Nat} {a1 : Nat} {a2 : Int} {s0 : MS} {res : Int × MS} (h : m_checked a1 a2 s0 = some res) (l : Launch) : GMet l yX8_checked cX8_checked 4 (some .int) 1 (MRp D o) (MK D) (mAd o) [.ref (o + mO a1), J a2] s0 1 res := by
  refine GMet.of [(0, .ref (o + mO a1)), (1, J a2)] (by decide) (MK_moved D) (Nat.le_of_ble_eq_true rfl) rfl ?_
  intro p e s m args below meth c hC
  have hC : GC p s m args meth c cX8_checked RX8 4 (some .int) (MK D) := hC
  unfold m_checked at h
  refine gw_sipush 0 hC dX8_checked_0 (by decide) ?_
  obtain ⟨x2_3, ex2_3, h⟩ := bnd_e h
  refine gw_istore_n 3 [(2, J x2_3), (0, .ref (o + mO a1)), (1, J a2)] hC dX8_checked_3 (by decide) ex2_3 rfl ?_
  refine gw_iconst 4 hC dX8_checked_4 ?_
  obtain ⟨x3_4, ex3_4, h⟩ := bnd_e h
  refine gw_istore_n 5 [(3, J x3_4), (2, J x2_3), (0, .ref (o + mO a1)), (1, J a2)] hC dX8_checked_5 (by decide) ex3_4 rfl ?_
  refine gw_sub [2, 3, 1, 0] rfl ?_
  refine wm_checked_L6 hC (fun x2_17 s18 h => ?_) FU _ _ _ _ _ h
  · refine gw_iload_n 29 0 hC dX8_checked_29 rfl ?_
    exact gw_iret 30 hC dX8_checked_30 h
/-! image()I -/
noncomputable def m_image_L35 (k61 : MS → Option (Int × MS)) : Nat → Int → MS → Option (Int × MS)
  | 0, _, _ => none
  | n + 1, x1_7, s8 =>
    Option.bind (m_verbMany s8) fun z10 =>
    if i32 z10.1 ≤ i32 x1_7 then
      k61 z10.2
    else
      gd (ok 219 (1 + x1_7)) <|
      Option.bind (m_writes (z10.2 48 (i32 (1 + x1_7))) z10.2) fun z13 =>
      bnd (x1_7 + 1) fun x1_14 =>
      m_image_L35 k61 n x1_14 z13.2
noncomputable def m_image_L73 (k107 : Int → MS → Option (Int × MS)) : Nat → Int → Int → MS → Option (Int × MS)
  | 0, _, _, _ => none
  | n + 1, x1_23, x2_24, s25 =>
    Option.bind (m_verbMany s25) fun z28 =>
    if i32 (3 + z28.1) ≤ i32 x2_24 then
      k107 x1_23 z28.2
    else
      gd (ok 219 ((8 + (10 * x1_23)) + x2_24)) <|
      Option.bind (m_writes (z28.2 48 (i32 ((8 + (10 * x1_23)) + x2_24))) z28.2) fun z31 =>
      bnd (x2_24 + 1) fun x2_32 =>
      m_image_L73 k107 n x1_23 x2_32 z31.2
noncomputable def m_image_L63 (k113 : MS → Option (Int × MS)) : Nat → Int → MS → Option (Int × MS)
  | 0, _, _ => none
  | n + 1, x1_17, s18 =>
    Option.bind (m_sayingMany s18) fun z20 =>
    if i32 z20.1 ≤ i32 x1_17 then
      k113 z20.2
    else
      bnd 0 fun x2_22 =>
      m_image_L73
        (fun (x1_33 : Int) (s34 : MS) =>
          bnd (x1_33 + 1) fun x1_35 =>
          m_image_L63 k113 n x1_35 s34)
        FU x1_17 x2_22 z20.2
noncomputable def m_image (s0 : MS) : Option (Int × MS) :=
  bnd (up s0 107 0 0) fun s1 =>
  gd (ok 219 0) <|
  Option.bind (m_writes (idiv (s1 48 (i32 0)) 256) s1) fun z3 =>
  gd (ok 219 0) <|
  Option.bind (m_writes (irem (z3.2 48 (i32 0)) 256) z3.2) fun z5 =>
  bnd 0 fun x1_6 =>
  m_image_L35
    (fun (s15 : MS) =>
      bnd 0 fun x1_16 =>
      m_image_L63
        (fun (s36 : MS) =>
          Option.bind (m_checked 106 (s36 107 0) s36) fun z37 =>
          Option.bind (m_writes z37.1 z37.2) fun z38 =>
          some ((z38.2 107 0), z38.2))
        FU x1_16 s15)
    FU x1_6 z5.2
theorem wm_image_L35 {p : Program} {l : Launch} {e : Env} {s : State} {m : MethodId} {args : Array Value} {below : List Frame} {meth : Method} {c : Code} {D : MD} {o : Nat} {res : Int × MS} {k61 : MS → Option (Int × MS)} (hC : GC p s m args meth c cX8_image RX8 3 (some .int) (MK D)) (hk61 : ∀ (s9 : MS), k61 s9 = some res → GW p l e (rmd 2) s m args below meth c 3 (mAd o) (MRp D o) (MK D) 1 res s9 61 [(0, .ref o)] []) : ∀ (n : Nat) (x1_7 : Int) (s8 : MS), m_image_L35 k61 n x1_7 s8 = some res → GW p l e (rmd 2) s m args below meth c 3 (mAd o) (MRp D o) (MK D) 1 res s8 35 [(0, .ref o), (1, J x1_7)] [] := by
  intro n
  induction n with
  | zero =>
    intro x1_7 s8 h
    cases h
  | succ n ih =>
    intro x1_7 s8 h
    rw [m_image_L35] at h
    refine gw_iload_n 35 1 hC dX8_image_35 rfl ?_
    refine gw_aload_n 36 0 hC dX8_image_36 rfl ?_
    obtain ⟨z10, ez10, h⟩ := opt_e h
    refine gw_callV (As := []) (rest := [J x1_7]) (st' := [J z10.1, J x1_7]) 37 0 hC (met_verbMany ez10 l) (lw_V q2259 q2261 qs92 q161 q2262) (by decide +kernel) (by decide) (m_recv hC) rfl rfl (Nat.le_of_ble_eq_true rfl) dX8_image_37 rfl ?_
    refine gw_icmp_ge 40 61 hC dX8_image_40 (by decide) (fun c11 => ?_) (fun c11 => ?_)
    · replace h := if_t h c11
      refine gw_sub [0] rfl ?_
      exact hk61 _ h
    · replace h := if_f h c11
      refine gw_aload_n 43 0 hC dX8_image_43 rfl ?_
      refine gw_aload_n 44 0 hC dX8_image_44 rfl ?_
      refine mg_48 45 hC dX8_image_45 ?_
      refine gw_iconst 48 hC dX8_image_48 ?_
      refine gw_iload_n 49 1 hC dX8_image_49 rfl ?_
      refine gw_iadd 50 hC dX8_image_50 ?_
      obtain ⟨g12, h⟩ := gd_e h
      refine m_iald 51 48 hC (by decide) rfl g12 dX8_image_51 ?_
      obtain ⟨z13, ez13, h⟩ := opt_e h
      refine gw_callV (As := [J (z10.2 48 (i32 (1 + x1_7)))]) (rest := []) (st' := []) 52 1 hC (met_writes ez13 l) (lw_V q2600 q2602 qs144 q161 q2603) (by decide +kernel) (by decide) (m_recv hC) rfl rfl (Nat.le_of_ble_eq_true rfl) dX8_image_52 rfl ?_
      obtain ⟨x1_14, ex1_14, h⟩ := bnd_e h
      refine gw_iinc 55 1 [(1, J x1_14), (0, .ref o)] hC dX8_image_55 rfl ex1_14 (by decide) rfl ?_
      refine gw_goto 58 35 hC dX8_image_58 (by decide) ?_
      refine gw_sub [1, 0] rfl ?_
      exact ih _ _ h
theorem wm_image_L73 {p : Program} {l : Launch} {e : Env} {s : State} {m : MethodId} {args : Array Value} {below : List Frame} {meth : Method} {c : Code} {D : MD} {o : Nat} {res : Int × MS} {k107 : Int → MS → Option (Int × MS)} (hC : GC p s m args meth c cX8_image RX8 3 (some .int) (MK D)) (hk107 : ∀ (x1_26 : Int) (s27 : MS), k107 x1_26 s27 = some res → GW p l e (rmd 2) s m args below meth c 3 (mAd o) (MRp D o) (MK D) 1 res s27 107 [(0, .ref o), (1, J x1_26)] []) : ∀ (n : Nat) (x1_23 : Int) (x2_24 : Int) (s25 : MS), m_image_L73 k107 n x1_23 x2_24 s25 = some res → GW p l e (rmd 2) s m args below meth c 3 (mAd o) (MRp D o) (MK D) 1 res s25 73 [(0, .ref o), (1, J x1_23), (2, J x2_24)] [] := by
  intro n
  induction n with
  | zero =>
    intro x1_23 x2_24 s25 h
    cases h
  | succ n ih =>
    intro x1_23 x2_24 s25 h
    rw [m_image_L73] at h
    refine gw_iload_n 73 2 hC dX8_image_73 rfl ?_
    refine gw_iconst 74 hC dX8_image_74 ?_
    refine gw_aload_n 75 0 hC dX8_image_75 rfl ?_
    obtain ⟨z28, ez28, h⟩ := opt_e h
    refine gw_callV (As := []) (rest := [J 3, J x2_24]) (st' := [J z28.1, J 3, J x2_24]) 76 0 hC (met_verbMany ez28 l) (lw_V q2259 q2261 qs92 q161 q2262) (by decide +kernel) (by decide) (m_recv hC) rfl rfl (Nat.le_of_ble_eq_true rfl) dX8_image_76 rfl ?_
    refine gw_iadd 79 hC dX8_image_79 ?_
    refine gw_icmp_ge 80 107 hC dX8_image_80 (by decide) (fun c29 => ?_) (fun c29 => ?_)
    · replace h := if_t h c29
      refine gw_sub [0, 1] rfl ?_
      exact hk107 _ _ h
    · replace h := if_f h c29
      refine gw_aload_n 83 0 hC dX8_image_83 rfl ?_
      refine gw_aload_n 84 0 hC dX8_image_84 rfl ?_
      refine mg_48 85 hC dX8_image_85 ?_
      refine gw_bipush 88 hC dX8_image_88 (by decide) ?_
      refine gw_bipush 90 hC dX8_image_90 (by decide) ?_
      refine gw_iload_n 92 1 hC dX8_image_92 rfl ?_
      refine gw_imul 93 hC dX8_image_93 ?_
      refine gw_iadd 94 hC dX8_image_94 ?_
      refine gw_iload_n 95 2 hC dX8_image_95 rfl ?_
      refine gw_iadd 96 hC dX8_image_96 ?_
      obtain ⟨g30, h⟩ := gd_e h
      refine m_iald 97 48 hC (by decide) rfl g30 dX8_image_97 ?_
      obtain ⟨z31, ez31, h⟩ := opt_e h
      refine gw_callV (As := [J (z28.2 48 (i32 ((8 + (10 * x1_23)) + x2_24)))]) (rest := []) (st' := []) 98 1 hC (met_writes ez31 l) (lw_V q2600 q2602 qs144 q161 q2603) (by decide +kernel) (by decide) (m_recv hC) rfl rfl (Nat.le_of_ble_eq_true rfl) dX8_image_98 rfl ?_
      obtain ⟨x2_32, ex2_32, h⟩ := bnd_e h
      refine gw_iinc 101 2 [(2, J x2_32), (0, .ref o), (1, J x1_23)] hC dX8_image_101 rfl ex2_32 (by decide) rfl ?_
      refine gw_goto 104 73 hC dX8_image_104 (by decide) ?_
      refine gw_sub [1, 2, 0] rfl ?_
      exact ih _ _ _ h
theorem wm_image_L63 {p : Program} {l : Launch} {e : Env} {s : State} {m : MethodId} {args : Array Value} {below : List Frame} {meth : Method} {c : Code} {D : MD} {o : Nat} {res : Int × MS} {k113 : MS → Option (Int × MS)} (hC : GC p s m args meth c cX8_image RX8 3 (some .int) (MK D)) (hk113 : ∀ (s19 : MS), k113 s19 = some res → GW p l e (rmd 2) s m args below meth c 3 (mAd o) (MRp D o) (MK D) 1 res s19 113 [(0, .ref o)] []) : ∀ (n : Nat) (x1_17 : Int) (s18 : MS), m_image_L63 k113 n x1_17 s18 = some res → GW p l e (rmd 2) s m args below meth c 3 (mAd o) (MRp D o) (MK D) 1 res s18 63 [(0, .ref o), (1, J x1_17)] [] := by
  intro n
  induction n with
  | zero =>
    intro x1_17 s18 h
    cases h
  | succ n ih =>
    intro x1_17 s18 h
    rw [m_image_L63] at h
    refine gw_iload_n 63 1 hC dX8_image_63 rfl ?_
    refine gw_aload_n 64 0 hC dX8_image_64 rfl ?_
    obtain ⟨z20, ez20, h⟩ := opt_e h
    refine gw_callV (As := []) (rest := [J x1_17]) (st' := [J z20.1, J x1_17]) 65 0 hC (met_sayingMany ez20 l) (lw_V q2278 q2280 qs96 q161 q2281) (by decide +kernel) (by decide) (m_recv hC) rfl rfl (Nat.le_of_ble_eq_true rfl) dX8_image_65 rfl ?_
    refine gw_icmp_ge 68 113 hC dX8_image_68 (by decide) (fun c21 => ?_) (fun c21 => ?_)
    · replace h := if_t h c21
      refine gw_sub [0] rfl ?_
      exact hk113 _ h
    · replace h := if_f h c21
      refine gw_iconst 71 hC dX8_image_71 ?_
      obtain ⟨x2_22, ex2_22, h⟩ := bnd_e h
      refine gw_istore_n 72 [(2, J x2_22), (0, .ref o), (1, J x1_17)] hC dX8_image_72 (by decide) ex2_22 rfl ?_
      refine gw_sub [1, 2, 0] rfl ?_
      refine wm_image_L73 hC (fun x1_33 s34 h => ?_) FU _ _ _ h
      · obtain ⟨x1_35, ex1_35, h⟩ := bnd_e h
        refine gw_iinc 107 1 [(1, J x1_35), (0, .ref o)] hC dX8_image_107 rfl ex1_35 (by decide) rfl ?_
        refine gw_goto 110 63 hC dX8_image_110 (by decide) ?_
        refine gw_sub [1, 0] rfl ?_
        exact ih _ _ h
theorem met_image {D : MD} {o : Nat} {s0 : MS} {res : Int × MS} (h : m_image s0 = some res) (l : Launch) : GMet l yX8_image cX8_image 3 (some .int) 2 (MRp D o) (MK D) (mAd o) [.ref o] s0 1 res := by
  refine GMet.of [(0, .ref o)] (by decide) (MK_moved D) (Nat.le_of_ble_eq_true rfl) rfl ?_
  intro p e s m args below meth c hC
  have hC : GC p s m args meth c cX8_image RX8 3 (some .int) (MK D) := hC
  unfold m_image at h
  refine gw_aload_n 0 0 hC dX8_image_0 rfl ?_
  refine gw_iconst 1 hC dX8_image_1 ?_
  obtain ⟨s1, es1, h⟩ := bnd_e h
  refine mp_107 2 hC (MIn_self o) es1 dX8_image_2 ?_
  refine gw_aload_n 5 0 hC dX8_image_5 rfl ?_
  refine gw_aload_n 6 0 hC dX8_image_6 rfl ?_
  refine mg_48 7 hC dX8_image_7 ?_
  refine gw_iconst 10 hC dX8_image_10 ?_
  obtain ⟨g2, h⟩ := gd_e h
  refine m_iald 11 48 hC (by decide) rfl g2 dX8_image_11 ?_
  refine gw_sipush 12 hC dX8_image_12 (by decide) ?_
  refine gw_idiv 15 hC dX8_image_15 (by decide) ?_
  obtain ⟨z3, ez3, h⟩ := opt_e h
  refine gw_callV (As := [J (idiv (s1 48 (i32 0)) 256)]) (rest := []) (st' := []) 16 1 hC (met_writes ez3 l) (lw_V q2600 q2602 qs144 q161 q2603) (by decide +kernel) (by decide) (m_recv hC) rfl rfl (Nat.le_of_ble_eq_true rfl) dX8_image_16 rfl ?_
  refine gw_aload_n 19 0 hC dX8_image_19 rfl ?_
  refine gw_aload_n 20 0 hC dX8_image_20 rfl ?_
  refine mg_48 21 hC dX8_image_21 ?_
  refine gw_iconst 24 hC dX8_image_24 ?_
  obtain ⟨g4, h⟩ := gd_e h
  refine m_iald 25 48 hC (by decide) rfl g4 dX8_image_25 ?_
  refine gw_sipush 26 hC dX8_image_26 (by decide) ?_
  refine gw_irem 29 hC dX8_image_29 (by decide) ?_
  obtain ⟨z5, ez5, h⟩ := opt_e h
  refine gw_callV (As := [J (irem (z3.2 48 (i32 0)) 256)]) (rest := []) (st' := []) 30 1 hC (met_writes ez5 l) (lw_V q2600 q2602 qs144 q161 q2603) (by decide +kernel) (by decide) (m_recv hC) rfl rfl (Nat.le_of_ble_eq_true rfl) dX8_image_30 rfl ?_
  refine gw_iconst 33 hC dX8_image_33 ?_
  obtain ⟨x1_6, ex1_6, h⟩ := bnd_e h
  refine gw_istore_n 34 [(1, J x1_6), (0, .ref o)] hC dX8_image_34 (by decide) ex1_6 rfl ?_
  refine gw_sub [1, 0] rfl ?_
  refine wm_image_L35 hC (fun s15 h => ?_) FU _ _ h
  · refine gw_iconst 61 hC dX8_image_61 ?_
    obtain ⟨x1_16, ex1_16, h⟩ := bnd_e h
    refine gw_istore_n 62 [(1, J x1_16), (0, .ref o)] hC dX8_image_62 (by decide) ex1_16 rfl ?_
    refine gw_sub [1, 0] rfl ?_
    refine wm_image_L63 hC (fun s36 h => ?_) FU _ _ h
    · refine gw_aload_n 113 0 hC dX8_image_113 rfl ?_
      refine gw_aload_n 114 0 hC dX8_image_114 rfl ?_
      refine mg_106 115 hC dX8_image_115 ?_
      refine gw_aload_n 118 0 hC dX8_image_118 rfl ?_
      refine mg_107 119 hC dX8_image_119 ?_
      obtain ⟨z37, ez37, h⟩ := opt_e h
      refine gw_callS (As := [.ref (o + mO 106), J (s36 107 0)]) (rest := [.ref o]) (st' := [J z37.1, .ref o]) 122 2 hC (met_checked ez37 l) (lw_S q2604 q2605 q161 q2606) (by decide +kernel) (by decide) rfl rfl (Nat.le_of_ble_eq_true rfl) dX8_image_122 rfl ?_
      obtain ⟨z38, ez38, h⟩ := opt_e h
      refine gw_callV (As := [J z37.1]) (rest := []) (st' := []) 125 1 hC (met_writes ez38 l) (lw_V q2600 q2602 qs144 q161 q2603) (by decide +kernel) (by decide) (m_recv hC) rfl rfl (Nat.le_of_ble_eq_true rfl) dX8_image_125 rfl ?_
      refine gw_aload_n 128 0 hC dX8_image_128 rfl ?_
      refine mg_107 129 hC dX8_image_129 ?_
      exact gw_iret 132 hC dX8_image_132 h
/-! octet(I)I -/
noncomputable def m_octet (a1 : Int) (s0 : MS) : Option (Int × MS) :=
  if i32 a1 < 0 then
    some ((-1), s0)
  else
    if i32 (s0 107 0) ≤ i32 a1 then
      some ((-1), s0)
    else
      gd (ok 70 a1) <|
      some ((s0 106 (i32 a1)), s0)
theorem met_octet {D : MD} {o : Nat} {a1 : Int} {s0 : MS} {res : Int × MS} (h : m_octet a1 s0 = some res) (l : Launch) : GMet l yX8_octet cX8_octet 2 (some .int) 1 (MRp D o) (MK D) (mAd o) [.ref o, J a1] s0 1 res := by
  refine GMet.of [(0, .ref o), (1, J a1)] (by decide) (MK_moved D) (Nat.le_of_ble_eq_true rfl) rfl ?_
  intro p e s m args below meth c hC
  have hC : GC p s m args meth c cX8_octet RX8 2 (some .int) (MK D) := hC
  unfold m_octet at h
  refine gw_iload_n 0 1 hC dX8_octet_0 rfl ?_
  refine gw_if_lt 1 21 hC dX8_octet_1 (by decide) (fun c2 => ?_) (fun c2 => ?_)
  · replace h := if_t h c2
    refine gw_iconst 21 hC dX8_octet_21 ?_
    exact gw_iret 22 hC dX8_octet_22 h
  · replace h := if_f h c2
    refine gw_iload_n 4 1 hC dX8_octet_4 rfl ?_
    refine gw_aload_n 5 0 hC dX8_octet_5 rfl ?_
    refine mg_107 6 hC dX8_octet_6 ?_
    refine gw_icmp_ge 9 21 hC dX8_octet_9 (by decide) (fun c3 => ?_) (fun c3 => ?_)
    · replace h := if_t h c3
      refine gw_iconst 21 hC dX8_octet_21 ?_
      exact gw_iret 22 hC dX8_octet_22 h
    · replace h := if_f h c3
      refine gw_aload_n 12 0 hC dX8_octet_12 rfl ?_
      refine mg_106 13 hC dX8_octet_13 ?_
      refine gw_iload_n 16 1 hC dX8_octet_16 rfl ?_
      obtain ⟨g4, h⟩ := gd_e h
      refine m_iald 17 106 hC (by decide) rfl g4 dX8_octet_17 ?_
      refine gw_goto 18 22 hC dX8_octet_18 (by decide) ?_
      exact gw_iret 22 hC dX8_octet_22 h
/-! isImage(I)Z -/
noncomputable def m_isImage_L84 (k109 : Int → Int → Int → MS → Option (Int × MS)) (k101 : MS → Option (Int × MS)) : Nat → Int → Int → Int → Int → MS → Option (Int × MS)
  | 0, _, _, _, _, _ => none
  | n + 1, x1_16, x2_17, x3_18, x4_19, s20 =>
    if i32 x3_18 ≤ i32 x4_19 then
      k109 x1_16 x2_17 x3_18 s20
    else
      gd (ok 1600 x4_19) <|
      if i32 (s20 0 (i32 x4_19)) ≤ i32 1 then
        bnd (x4_19 + 1) fun x4_29 =>
        m_isImage_L84 k109 k101 n x1_16 x2_17 x3_18 x4_29 s20
      else
        k101 s20
noncomputable def m_isImage_L112 (k155 : MS → Option (Int × MS)) (k147 : MS → Option (Int × MS)) : Nat → Int → Int → Int → Int → MS → Option (Int × MS)
  | 0, _, _, _, _, _ => none
  | n + 1, x1_34, x2_35, x3_36, x4_37, s38 =>
    if i32 (x1_34 - 1) ≤ i32 x4_37 then
      k155 s38
    else
      gd (ok 1600 x4_37) <|
      gd (¬ i32 x2_35 = 0) <|
      bnd (fun (x1_44 : Int) (x2_45 : Int) (x3_46 : Int) (x4_47 : Int) (w48 : Int) (w49 : Int) (s50 : MS) =>
          if i32 w49 ≤ i32 w48 then
            bnd (x4_47 + 1) fun x4_52 =>
            m_isImage_L112 k155 k147 n x1_44 x2_45 x3_46 x4_52 s50
          else
            k147 s50) fun j53 =>
      if i32 3 ≤ i32 (irem (x4_37 - x3_36) x2_35) then
        j53 x1_34 x2_35 x3_36 x4_37 99 (s38 0 (i32 x4_37)) s38
      else
        j53 x1_34 x2_35 x3_36 x4_37 9 (s38 0 (i32 x4_37)) s38
noncomputable def m_isImage (a1 : Int) (s0 : MS) : Option (Int × MS) :=
  Option.bind (m_verbMany s0) fun z2 =>
  bnd (3 + z2.1) fun x2_3 =>
  Option.bind (m_verbMany z2.2) fun z4 =>
  bnd (2 + z4.1) fun x3_5 =>
  if i32 (z4.2 46 0) = 0 then
    some (0, z4.2)
  else
    Option.bind (m_sayingMany z4.2) fun z7 =>
    if i32 a1 = i32 ((x3_5 + (x2_3 * z7.1)) + 1) then
      gd (ok 1600 (a1 - 1)) <|
      Option.bind (m_checked 0 (a1 - 1) z7.2) fun z10 =>
      if i32 (z7.2 0 (i32 (a1 - 1))) = i32 z10.1 then
        gd (ok 1600 0) <|
        gd (ok 1600 1) <|
        if i32 ((256 * (z10.2 0 (i32 0))) + (z10.2 0 (i32 1))) ≤ i32 999 then
          bnd 2 fun x4_15 =>
          m_isImage_L84
            (fun (x1_30 : Int) (x2_31 : Int) (x3_32 : Int) (s33 : MS) =>
              m_isImage_L112
                (fun (s55 : MS) =>
                  some (1, s55))
                (fun (s56 : MS) =>
                  some (0, s56))
                FU x1_30 x2_31 x3_32 x3_32 s33)
            (fun (s57 : MS) =>
              some (0, s57))
            FU a1 x2_3 x3_5 x4_15 z10.2
        else
          some (0, z10.2)
      else
        some (0, z10.2)
    else
      some (0, z7.2)
theorem wm_isImage_L84 {p : Program} {l : Launch} {e : Env} {s : State} {m : MethodId} {args : Array Value} {below : List Frame} {meth : Method} {c : Code} {D : MD} {o : Nat} {res : Int × MS} {k109 : Int → Int → Int → MS → Option (Int × MS)} {k101 : MS → Option (Int × MS)} (hC : GC p s m args meth c cX8_isImage RX8 5 (some .boolean) (MK D)) (hk109 : ∀ (x1_21 : Int) (x2_22 : Int) (x3_23 : Int) (s24 : MS), k109 x1_21 x2_22 x3_23 s24 = some res → GW p l e (rmd 2) s m args below meth c 5 (mAd o) (MRp D o) (MK D) 1 res s24 109 [(0, .ref o), (1, J x1_21), (2, J x2_22), (3, J x3_23)] []) (hk101 : ∀ (s25 : MS), k101 s25 = some res → GW p l e (rmd 2) s m args below meth c 5 (mAd o) (MRp D o) (MK D) 1 res s25 101 [] []) : ∀ (n : Nat) (x1_16 : Int) (x2_17 : Int) (x3_18 : Int) (x4_19 : Int) (s20 : MS), m_isImage_L84 k109 k101 n x1_16 x2_17 x3_18 x4_19 s20 = some res → GW p l e (rmd 2) s m args below meth c 5 (mAd o) (MRp D o) (MK D) 1 res s20 84 [(0, .ref o), (1, J x1_16), (2, J x2_17), (3, J x3_18), (4, J x4_19)] [] := by
  intro n
  induction n with
  | zero =>
    intro x1_16 x2_17 x3_18 x4_19 s20 h
    cases h
  | succ n ih =>
    intro x1_16 x2_17 x3_18 x4_19 s20 h
    rw [m_isImage_L84] at h
    refine gw_iload 84 4 hC dX8_isImage_84 rfl ?_
    refine gw_iload_n 86 3 hC dX8_isImage_86 rfl ?_
    refine gw_icmp_ge 87 109 hC dX8_isImage_87 (by decide) (fun c26 => ?_) (fun c26 => ?_)
    · replace h := if_t h c26
      refine gw_sub [0, 1, 2, 3] rfl ?_
      exact hk109 _ _ _ _ h
    · replace h := if_f h c26
      refine gw_aload_n 90 0 hC dX8_isImage_90 rfl ?_
      refine mg_0 91 hC dX8_isImage_91 ?_
      refine gw_iload 94 4 hC dX8_isImage_94 rfl ?_
      obtain ⟨g27, h⟩ := gd_e h
      refine m_iald 96 0 hC (by decide) rfl g27 dX8_isImage_96 ?_
      refine gw_iconst 97 hC dX8_isImage_97 ?_
      refine gw_icmp_le 98 103 hC dX8_isImage_98 (by decide) (fun c28 => ?_) (fun c28 => ?_)
      · replace h := if_t h c28
        obtain ⟨x4_29, ex4_29, h⟩ := bnd_e h
        refine gw_iinc 103 4 [(4, J x4_29), (0, .ref o), (1, J x1_16), (2, J x2_17), (3, J x3_18)] hC dX8_isImage_103 rfl ex4_29 (by decide) rfl ?_
        refine gw_goto 106 84 hC dX8_isImage_106 (by decide) ?_
        refine gw_sub [1, 2, 3, 4, 0] rfl ?_
        exact ih _ _ _ _ _ h
      · replace h := if_f h c28
        refine gw_sub [] rfl ?_
        exact hk101 _ h
theorem wm_isImage_L112 {p : Program} {l : Launch} {e : Env} {s : State} {m : MethodId} {args : Array Value} {below : List Frame} {meth : Method} {c : Code} {D : MD} {o : Nat} {res : Int × MS} {k155 : MS → Option (Int × MS)} {k147 : MS → Option (Int × MS)} (hC : GC p s m args meth c cX8_isImage RX8 5 (some .boolean) (MK D)) (hk155 : ∀ (s39 : MS), k155 s39 = some res → GW p l e (rmd 2) s m args below meth c 5 (mAd o) (MRp D o) (MK D) 1 res s39 155 [] []) (hk147 : ∀ (s40 : MS), k147 s40 = some res → GW p l e (rmd 2) s m args below meth c 5 (mAd o) (MRp D o) (MK D) 1 res s40 147 [] []) : ∀ (n : Nat) (x1_34 : Int) (x2_35 : Int) (x3_36 : Int) (x4_37 : Int) (s38 : MS), m_isImage_L112 k155 k147 n x1_34 x2_35 x3_36 x4_37 s38 = some res → GW p l e (rmd 2) s m args below meth c 5 (mAd o) (MRp D o) (MK D) 1 res s38 112 [(0, .ref o), (1, J x1_34), (2, J x2_35), (3, J x3_36), (4, J x4_37)] [] := by
  intro n
  induction n with
  | zero =>
    intro x1_34 x2_35 x3_36 x4_37 s38 h
    cases h
  | succ n ih =>
    intro x1_34 x2_35 x3_36 x4_37 s38 h
    rw [m_isImage_L112] at h
    refine gw_iload 112 4 hC dX8_isImage_112 rfl ?_
    refine gw_iload_n 114 1 hC dX8_isImage_114 rfl ?_
    refine gw_iconst 115 hC dX8_isImage_115 ?_
    refine gw_isub 116 hC dX8_isImage_116 ?_
    refine gw_icmp_ge 117 155 hC dX8_isImage_117 (by decide) (fun c41 => ?_) (fun c41 => ?_)
    · replace h := if_t h c41
      refine gw_sub [] rfl ?_
      exact hk155 _ h
    · replace h := if_f h c41
      refine gw_aload_n 120 0 hC dX8_isImage_120 rfl ?_
      refine mg_0 121 hC dX8_isImage_121 ?_
      refine gw_iload 124 4 hC dX8_isImage_124 rfl ?_
      obtain ⟨g42, h⟩ := gd_e h
      refine m_iald 126 0 hC (by decide) rfl g42 dX8_isImage_126 ?_
      refine gw_iload 127 4 hC dX8_isImage_127 rfl ?_
      refine gw_iload_n 129 3 hC dX8_isImage_129 rfl ?_
      refine gw_isub 130 hC dX8_isImage_130 ?_
      refine gw_iload_n 131 2 hC dX8_isImage_131 rfl ?_
      obtain ⟨g43, h⟩ := gd_e h
      refine gw_irem 132 hC dX8_isImage_132 g43 ?_
      refine gw_iconst 133 hC dX8_isImage_133 ?_
      obtain ⟨j53, ej53, h⟩ := bnd_e h
      have hj53 : ∀ (x1_44 : Int) (x2_45 : Int) (x3_46 : Int) (x4_47 : Int) (w48 : Int) (w49 : Int) (s50 : MS), j53 x1_44 x2_45 x3_46 x4_47 w48 w49 s50 = some res → GW p l e (rmd 2) s m args below meth c 5 (mAd o) (MRp D o) (MK D) 1 res s50 144 [(0, .ref o), (1, J x1_44), (2, J x2_45), (3, J x3_46), (4, J x4_47)] [J w48, J w49] := by
        clear h
        intro x1_44 x2_45 x3_46 x4_47 w48 w49 s50 h
        subst ej53
        refine gw_icmp_le 144 149 hC dX8_isImage_144 (by decide) (fun c51 => ?_) (fun c51 => ?_)
        · replace h := if_t h c51
          obtain ⟨x4_52, ex4_52, h⟩ := bnd_e h
          refine gw_iinc 149 4 [(4, J x4_52), (0, .ref o), (1, J x1_44), (2, J x2_45), (3, J x3_46)] hC dX8_isImage_149 rfl ex4_52 (by decide) rfl ?_
          refine gw_goto 152 112 hC dX8_isImage_152 (by decide) ?_
          refine gw_sub [1, 2, 3, 4, 0] rfl ?_
          exact ih _ _ _ _ _ h
        · replace h := if_f h c51
          refine gw_sub [] rfl ?_
          exact hk147 _ h
      refine gw_icmp_ge 134 142 hC dX8_isImage_134 (by decide) (fun c54 => ?_) (fun c54 => ?_)
      · replace h := if_t h c54
        refine gw_bipush 142 hC dX8_isImage_142 (by decide) ?_
        refine gw_sub [0, 1, 2, 3, 4] rfl ?_
        exact hj53 _ _ _ _ _ _ _ h
      · replace h := if_f h c54
        refine gw_bipush 137 hC dX8_isImage_137 (by decide) ?_
        refine gw_goto 139 144 hC dX8_isImage_139 (by decide) ?_
        refine gw_sub [0, 1, 2, 3, 4] rfl ?_
        exact hj53 _ _ _ _ _ _ _ h
theorem met_isImage {D : MD} {o : Nat} {a1 : Int} {s0 : MS} {res : Int × MS} (h : m_isImage a1 s0 = some res) (l : Launch) : GMet l yX8_isImage cX8_isImage 5 (some .boolean) 2 (MRp D o) (MK D) (mAd o) [.ref o, J a1] s0 1 res := by
  refine GMet.of [(0, .ref o), (1, J a1)] (by decide) (MK_moved D) (Nat.le_of_ble_eq_true rfl) rfl ?_
  intro p e s m args below meth c hC
  have hC : GC p s m args meth c cX8_isImage RX8 5 (some .boolean) (MK D) := hC
  unfold m_isImage at h
  refine gw_iconst 0 hC dX8_isImage_0 ?_
  refine gw_aload_n 1 0 hC dX8_isImage_1 rfl ?_
  obtain ⟨z2, ez2, h⟩ := opt_e h
  refine gw_callV (As := []) (rest := [J 3]) (st' := [J z2.1, J 3]) 2 0 hC (met_verbMany ez2 l) (lw_V q2259 q2261 qs92 q161 q2262) (by decide +kernel) (by decide) (m_recv hC) rfl rfl (Nat.le_of_ble_eq_true rfl) dX8_isImage_2 rfl ?_
  refine gw_iadd 5 hC dX8_isImage_5 ?_
  obtain ⟨x2_3, ex2_3, h⟩ := bnd_e h
  refine gw_istore_n 6 [(2, J x2_3), (0, .ref o), (1, J a1)] hC dX8_isImage_6 (by decide) ex2_3 rfl ?_
  refine gw_iconst 7 hC dX8_isImage_7 ?_
  refine gw_aload_n 8 1 hC dX8_isImage_8 rfl ?_
  obtain ⟨z4, ez4, h⟩ := opt_e h
  refine gw_callV (As := []) (rest := [J 2]) (st' := [J z4.1, J 2]) 9 0 hC (met_verbMany ez4 l) (lw_V q2259 q2261 qs92 q161 q2262) (by decide +kernel) (by decide) (m_recv hC) rfl rfl (Nat.le_of_ble_eq_true rfl) dX8_isImage_9 rfl ?_
  refine gw_iadd 12 hC dX8_isImage_12 ?_
  obtain ⟨x3_5, ex3_5, h⟩ := bnd_e h
  refine gw_istore_n 13 [(3, J x3_5), (2, J x2_3), (0, .ref o), (1, J a1)] hC dX8_isImage_13 (by decide) ex3_5 rfl ?_
  refine gw_aload_n 14 2 hC dX8_isImage_14 rfl ?_
  refine mg_46 15 hC dX8_isImage_15 ?_
  refine gw_if_eq 18 79 hC dX8_isImage_18 (by decide) (fun c6 => ?_) (fun c6 => ?_)
  · replace h := if_t h c6
    refine gw_iconst 79 hC dX8_isImage_79 ?_
    exact gw_zret 80 hC dX8_isImage_80 (by decide) h
  · replace h := if_f h c6
    refine gw_iload_n 21 3 hC dX8_isImage_21 rfl ?_
    refine gw_iload_n 22 0 hC dX8_isImage_22 rfl ?_
    refine gw_iload_n 23 1 hC dX8_isImage_23 rfl ?_
    refine gw_aload_n 24 2 hC dX8_isImage_24 rfl ?_
    obtain ⟨z7, ez7, h⟩ := opt_e h
    refine gw_callV (As := []) (rest := [J x2_3, J x3_5, J a1]) (st' := [J z7.1, J x2_3, J x3_5, J a1]) 25 0 hC (met_sayingMany ez7 l) (lw_V q2278 q2280 qs96 q161 q2281) (by decide +kernel) (by decide) (m_recv hC) rfl rfl (Nat.le_of_ble_eq_true rfl) dX8_isImage_25 rfl ?_
    refine gw_imul 28 hC dX8_isImage_28 ?_
    refine gw_iadd 29 hC dX8_isImage_29 ?_
    refine gw_iconst 30 hC dX8_isImage_30 ?_
    refine gw_iadd 31 hC dX8_isImage_31 ?_
    refine gw_icmp_ne 32 79 hC dX8_isImage_32 (by decide) (fun c8 => ?_) (fun c8 => ?_)
    · replace h := if_f h c8
      refine gw_iconst 79 hC dX8_isImage_79 ?_
      exact gw_zret 80 hC dX8_isImage_80 (by decide) h
    · replace h := if_t h c8
      refine gw_aload_n 35 2 hC dX8_isImage_35 rfl ?_
      refine mg_0 36 hC dX8_isImage_36 ?_
      refine gw_iload_n 39 3 hC dX8_isImage_39 rfl ?_
      refine gw_iconst 40 hC dX8_isImage_40 ?_
      refine gw_isub 41 hC dX8_isImage_41 ?_
      obtain ⟨g9, h⟩ := gd_e h
      refine m_iald 42 0 hC (by decide) rfl g9 dX8_isImage_42 ?_
      refine gw_aload_n 43 2 hC dX8_isImage_43 rfl ?_
      refine mg_0 44 hC dX8_isImage_44 ?_
      refine gw_iload_n 47 3 hC dX8_isImage_47 rfl ?_
      refine gw_iconst 48 hC dX8_isImage_48 ?_
      refine gw_isub 49 hC dX8_isImage_49 ?_
      obtain ⟨z10, ez10, h⟩ := opt_e h
      refine gw_callS (As := [.ref (o + mO 0), J (a1 - 1)]) (rest := [J (z7.2 0 (i32 (a1 - 1)))]) (st' := [J z10.1, J (z7.2 0 (i32 (a1 - 1)))]) 50 2 hC (met_checked ez10 l) (lw_S q2604 q2605 q161 q2606) (by decide +kernel) (by decide) rfl rfl (Nat.le_of_ble_eq_true rfl) dX8_isImage_50 rfl ?_
      refine gw_icmp_ne 53 79 hC dX8_isImage_53 (by decide) (fun c11 => ?_) (fun c11 => ?_)
      · replace h := if_f h c11
        refine gw_iconst 79 hC dX8_isImage_79 ?_
        exact gw_zret 80 hC dX8_isImage_80 (by decide) h
      · replace h := if_t h c11
        refine gw_sipush 56 hC dX8_isImage_56 (by decide) ?_
        refine gw_aload_n 59 2 hC dX8_isImage_59 rfl ?_
        refine mg_0 60 hC dX8_isImage_60 ?_
        refine gw_iconst 63 hC dX8_isImage_63 ?_
        obtain ⟨g12, h⟩ := gd_e h
        refine m_iald 64 0 hC (by decide) rfl g12 dX8_isImage_64 ?_
        refine gw_imul 65 hC dX8_isImage_65 ?_
        refine gw_aload_n 66 2 hC dX8_isImage_66 rfl ?_
        refine mg_0 67 hC dX8_isImage_67 ?_
        refine gw_iconst 70 hC dX8_isImage_70 ?_
        obtain ⟨g13, h⟩ := gd_e h
        refine m_iald 71 0 hC (by decide) rfl g13 dX8_isImage_71 ?_
        refine gw_iadd 72 hC dX8_isImage_72 ?_
        refine gw_sipush 73 hC dX8_isImage_73 (by decide) ?_
        refine gw_icmp_le 76 81 hC dX8_isImage_76 (by decide) (fun c14 => ?_) (fun c14 => ?_)
        · replace h := if_t h c14
          refine gw_iconst 81 hC dX8_isImage_81 ?_
          obtain ⟨x4_15, ex4_15, h⟩ := bnd_e h
          refine gw_istore 82 [(4, J x4_15), (3, J x3_5), (2, J x2_3), (0, .ref o), (1, J a1)] hC dX8_isImage_82 (by decide) ex4_15 rfl ?_
          refine gw_sub [3, 4, 2, 1, 0] rfl ?_
          refine wm_isImage_L84 hC (fun x1_30 x2_31 x3_32 s33 h => ?_) (fun s57 h => ?_) FU _ _ _ _ _ h
          · refine gw_iload_n 109 3 hC dX8_isImage_109 rfl ?_
            refine gw_istore 110 [(4, J x3_32), (0, .ref o), (1, J x1_30), (2, J x2_31), (3, J x3_32)] hC dX8_isImage_110 (by decide) rfl rfl ?_
            refine gw_sub [1, 2, 3, 4, 0] rfl ?_
            refine wm_isImage_L112 hC (fun s55 h => ?_) (fun s56 h => ?_) FU _ _ _ _ _ h
            · refine gw_iconst 155 hC dX8_isImage_155 ?_
              exact gw_zret 156 hC dX8_isImage_156 (by decide) h
            · refine gw_iconst 147 hC dX8_isImage_147 ?_
              exact gw_zret 148 hC dX8_isImage_148 (by decide) h
          · refine gw_iconst 101 hC dX8_isImage_101 ?_
            exact gw_zret 102 hC dX8_isImage_102 (by decide) h
        · replace h := if_f h c14
          refine gw_iconst 79 hC dX8_isImage_79 ?_
          exact gw_zret 80 hC dX8_isImage_80 (by decide) h
/-! on()Z -/
noncomputable def m_on_L70 (k103 : Int → Int → MS → Option (Int × MS)) : Nat → Int → Int → Int → MS → Option (Int × MS)
  | 0, _, _, _, _ => none
  | n + 1, x2_14, x3_15, x4_16, s17 =>
    Option.bind (m_verbMany s17) fun z21 =>
    if i32 z21.1 ≤ i32 x4_16 then
      k103 x2_14 x3_15 z21.2
    else
      gd (ok 1600 (2 + x4_16)) <|
      gd (ok 219 (1 + x4_16)) <|
      bnd (up z21.2 48 (i32 (1 + x4_16)) (z21.2 0 (i32 (2 + x4_16)))) fun s25 =>
      bnd (x4_16 + 1) fun x4_26 =>
      m_on_L70 k103 n x2_14 x3_15 x4_26 s25
noncomputable def m_on_L118 (k160 : Int → Int → Int → MS → Option (Int × MS)) : Nat → Int → Int → Int → Int → MS → Option (Int × MS)
  | 0, _, _, _, _, _ => none
  | n + 1, x2_39, x3_40, x4_41, x5_42, s43 =>
    if i32 x2_39 ≤ i32 x5_42 then
      k160 x2_39 x3_40 x4_41 s43
    else
      gd (ok 1600 ((x3_40 + (x2_39 * x4_41)) + x5_42)) <|
      gd (ok 219 ((8 + (10 * x4_41)) + x5_42)) <|
      bnd (up s43 48 (i32 ((8 + (10 * x4_41)) + x5_42)) (s43 0 (i32 ((x3_40 + (x2_39 * x4_41)) + x5_42)))) fun s51 =>
      bnd (x5_42 + 1) fun x5_52 =>
      m_on_L118 k160 n x2_39 x3_40 x4_41 x5_52 s51
noncomputable def m_on_L106 (k166 : MS → Option (Int × MS)) : Nat → Int → Int → Int → MS → Option (Int × MS)
  | 0, _, _, _, _ => none
  | n + 1, x2_31, x3_32, x4_33, s34 =>
    Option.bind (m_sayingMany s34) fun z36 =>
    if i32 z36.1 ≤ i32 x4_33 then
      k166 z36.2
    else
      bnd 0 fun x5_38 =>
      m_on_L118
        (fun (x2_53 : Int) (x3_54 : Int) (x4_55 : Int) (s56 : MS) =>
          bnd (x4_55 + 1) fun x4_57 =>
          m_on_L106 k166 n x2_53 x3_54 x4_57 s56)
        FU x2_31 x3_32 x4_33 x5_38 z36.2
noncomputable def m_on (s0 : MS) : Option (Int × MS) :=
  bnd (s0 1 0) fun x1_1 =>
  bnd (up s0 1 0 0) fun s2 =>
  Option.bind (m_isImage x1_1 s2) fun z3 =>
  if i32 z3.1 = 0 then
    gd (ok 6 5) <|
    gd (ok 6 5) <|
    bnd (up z3.2 9 (i32 5) ((z3.2 9 (i32 5)) + 1)) fun s64 =>
    some (0, s64)
  else
    Option.bind (m_verbMany z3.2) fun z5 =>
    bnd (3 + z5.1) fun x2_6 =>
    Option.bind (m_verbMany z5.2) fun z7 =>
    bnd (2 + z7.1) fun x3_8 =>
    gd (ok 1600 0) <|
    gd (ok 1600 1) <|
    gd (ok 219 0) <|
    bnd (up z7.2 48 (i32 0) ((256 * (z7.2 0 (i32 0))) + (z7.2 0 (i32 1)))) fun s12 =>
    bnd 0 fun x4_13 =>
    m_on_L70
      (fun (x2_27 : Int) (x3_28 : Int) (s29 : MS) =>
        bnd 0 fun x4_30 =>
        m_on_L106
          (fun (s58 : MS) =>
            gd (ok 219 68) <|
            bnd (up s58 48 (i32 68) 0) fun s60 =>
            bnd (up s60 70 0 0) fun s61 =>
            some (1, s61))
          FU x2_27 x3_28 x4_30 s29)
      FU x2_6 x3_8 x4_13 s12
theorem wm_on_L70 {p : Program} {l : Launch} {e : Env} {s : State} {m : MethodId} {args : Array Value} {below : List Frame} {meth : Method} {c : Code} {D : MD} {o : Nat} {res : Int × MS} {k103 : Int → Int → MS → Option (Int × MS)} (hC : GC p s m args meth c cX8_on RX8 6 (some .boolean) (MK D)) (hk103 : ∀ (x2_18 : Int) (x3_19 : Int) (s20 : MS), k103 x2_18 x3_19 s20 = some res → GW p l e (rmd 3) s m args below meth c 6 (mAd o) (MRp D o) (MK D) 1 res s20 103 [(0, .ref o), (2, J x2_18), (3, J x3_19)] []) : ∀ (n : Nat) (x2_14 : Int) (x3_15 : Int) (x4_16 : Int) (s17 : MS), m_on_L70 k103 n x2_14 x3_15 x4_16 s17 = some res → GW p l e (rmd 3) s m args below meth c 6 (mAd o) (MRp D o) (MK D) 1 res s17 70 [(0, .ref o), (2, J x2_14), (3, J x3_15), (4, J x4_16)] [] := by
  intro n
  induction n with
  | zero =>
    intro x2_14 x3_15 x4_16 s17 h
    cases h
  | succ n ih =>
    intro x2_14 x3_15 x4_16 s17 h
    rw [m_on_L70] at h
    refine gw_iload 70 3 hC dX8_on_70 rfl ?_
    refine gw_aload_n 72 0 hC dX8_on_72 rfl ?_
    obtain ⟨z21, ez21, h⟩ := opt_e h
    refine gw_callV (As := []) (rest := [J x4_16]) (st' := [J z21.1, J x4_16]) 73 0 hC (met_verbMany ez21 l) (lw_V q2259 q2261 qs92 q161 q2262) (by decide +kernel) (by decide) (m_recv hC) rfl rfl (Nat.le_of_ble_eq_true rfl) dX8_on_73 rfl ?_
    refine gw_icmp_ge 76 103 hC dX8_on_76 (by decide) (fun c22 => ?_) (fun c22 => ?_)
    · replace h := if_t h c22
      refine gw_sub [0, 1, 2] rfl ?_
      exact hk103 _ _ _ h
    · replace h := if_f h c22
      refine gw_aload_n 79 0 hC dX8_on_79 rfl ?_
      refine mg_48 80 hC dX8_on_80 ?_
      refine gw_iconst 83 hC dX8_on_83 ?_
      refine gw_iload 84 3 hC dX8_on_84 rfl ?_
      refine gw_iadd 86 hC dX8_on_86 ?_
      refine gw_aload_n 87 0 hC dX8_on_87 rfl ?_
      refine mg_0 88 hC dX8_on_88 ?_
      refine gw_iconst 91 hC dX8_on_91 ?_
      refine gw_iload 92 3 hC dX8_on_92 rfl ?_
      refine gw_iadd 94 hC dX8_on_94 ?_
      obtain ⟨g23, h⟩ := gd_e h
      refine m_iald 95 0 hC (by decide) rfl g23 dX8_on_95 ?_
      obtain ⟨g24, h⟩ := gd_e h
      obtain ⟨s25, es25, h⟩ := bnd_e h
      refine m_iast 96 48 hC (MIn_self o) (by decide) rfl g24 es25 dX8_on_96 ?_
      obtain ⟨x4_26, ex4_26, h⟩ := bnd_e h
      refine gw_iinc 97 3 [(4, J x4_26), (0, .ref o), (2, J x2_14), (3, J x3_15)] hC dX8_on_97 rfl ex4_26 (by decide) rfl ?_
      refine gw_goto 100 70 hC dX8_on_100 (by decide) ?_
      refine gw_sub [1, 2, 3, 0] rfl ?_
      exact ih _ _ _ _ h
theorem wm_on_L118 {p : Program} {l : Launch} {e : Env} {s : State} {m : MethodId} {args : Array Value} {below : List Frame} {meth : Method} {c : Code} {D : MD} {o : Nat} {res : Int × MS} {k160 : Int → Int → Int → MS → Option (Int × MS)} (hC : GC p s m args meth c cX8_on RX8 6 (some .boolean) (MK D)) (hk160 : ∀ (x2_44 : Int) (x3_45 : Int) (x4_46 : Int) (s47 : MS), k160 x2_44 x3_45 x4_46 s47 = some res → GW p l e (rmd 3) s m args below meth c 6 (mAd o) (MRp D o) (MK D) 1 res s47 160 [(0, .ref o), (2, J x2_44), (3, J x3_45), (4, J x4_46)] []) : ∀ (n : Nat) (x2_39 : Int) (x3_40 : Int) (x4_41 : Int) (x5_42 : Int) (s43 : MS), m_on_L118 k160 n x2_39 x3_40 x4_41 x5_42 s43 = some res → GW p l e (rmd 3) s m args below meth c 6 (mAd o) (MRp D o) (MK D) 1 res s43 118 [(0, .ref o), (2, J x2_39), (3, J x3_40), (4, J x4_41), (5, J x5_42)] [] := by
  intro n
  induction n with
  | zero =>
    intro x2_39 x3_40 x4_41 x5_42 s43 h
    cases h
  | succ n ih =>
    intro x2_39 x3_40 x4_41 x5_42 s43 h
    rw [m_on_L118] at h
    refine gw_iload 118 4 hC dX8_on_118 rfl ?_
    refine gw_iload_n 120 1 hC dX8_on_120 rfl ?_
    refine gw_icmp_ge 121 160 hC dX8_on_121 (by decide) (fun c48 => ?_) (fun c48 => ?_)
    · replace h := if_t h c48
      refine gw_sub [0, 1, 2, 3] rfl ?_
      exact hk160 _ _ _ _ h
    · replace h := if_f h c48
      refine gw_aload_n 124 0 hC dX8_on_124 rfl ?_
      refine mg_48 125 hC dX8_on_125 ?_
      refine gw_bipush 128 hC dX8_on_128 (by decide) ?_
      refine gw_bipush 130 hC dX8_on_130 (by decide) ?_
      refine gw_iload 132 3 hC dX8_on_132 rfl ?_
      refine gw_imul 134 hC dX8_on_134 ?_
      refine gw_iadd 135 hC dX8_on_135 ?_
      refine gw_iload 136 4 hC dX8_on_136 rfl ?_
      refine gw_iadd 138 hC dX8_on_138 ?_
      refine gw_aload_n 139 0 hC dX8_on_139 rfl ?_
      refine mg_0 140 hC dX8_on_140 ?_
      refine gw_iload_n 143 2 hC dX8_on_143 rfl ?_
      refine gw_iload_n 144 1 hC dX8_on_144 rfl ?_
      refine gw_iload 145 3 hC dX8_on_145 rfl ?_
      refine gw_imul 147 hC dX8_on_147 ?_
      refine gw_iadd 148 hC dX8_on_148 ?_
      refine gw_iload 149 4 hC dX8_on_149 rfl ?_
      refine gw_iadd 151 hC dX8_on_151 ?_
      obtain ⟨g49, h⟩ := gd_e h
      refine m_iald 152 0 hC (by decide) rfl g49 dX8_on_152 ?_
      obtain ⟨g50, h⟩ := gd_e h
      obtain ⟨s51, es51, h⟩ := bnd_e h
      refine m_iast 153 48 hC (MIn_self o) (by decide) rfl g50 es51 dX8_on_153 ?_
      obtain ⟨x5_52, ex5_52, h⟩ := bnd_e h
      refine gw_iinc 154 4 [(5, J x5_52), (0, .ref o), (2, J x2_39), (3, J x3_40), (4, J x4_41)] hC dX8_on_154 rfl ex5_52 (by decide) rfl ?_
      refine gw_goto 157 118 hC dX8_on_157 (by decide) ?_
      refine gw_sub [1, 2, 3, 4, 0] rfl ?_
      exact ih _ _ _ _ _ h
theorem wm_on_L106 {p : Program} {l : Launch} {e : Env} {s : State} {m : MethodId} {args : Array Value} {below : List Frame} {meth : Method} {c : Code} {D : MD} {o : Nat} {res : Int × MS} {k166 : MS → Option (Int × MS)} (hC : GC p s m args meth c cX8_on RX8 6 (some .boolean) (MK D)) (hk166 : ∀ (s35 : MS), k166 s35 = some res → GW p l e (rmd 3) s m args below meth c 6 (mAd o) (MRp D o) (MK D) 1 res s35 166 [(0, .ref o)] []) : ∀ (n : Nat) (x2_31 : Int) (x3_32 : Int) (x4_33 : Int) (s34 : MS), m_on_L106 k166 n x2_31 x3_32 x4_33 s34 = some res → GW p l e (rmd 3) s m args below meth c 6 (mAd o) (MRp D o) (MK D) 1 res s34 106 [(0, .ref o), (2, J x2_31), (3, J x3_32), (4, J x4_33)] [] := by
  intro n
  induction n with
  | zero =>
    intro x2_31 x3_32 x4_33 s34 h
    cases h
  | succ n ih =>
    intro x2_31 x3_32 x4_33 s34 h
    rw [m_on_L106] at h
    refine gw_iload 106 3 hC dX8_on_106 rfl ?_
    refine gw_aload_n 108 0 hC dX8_on_108 rfl ?_
    obtain ⟨z36, ez36, h⟩ := opt_e h
    refine gw_callV (As := []) (rest := [J x4_33]) (st' := [J z36.1, J x4_33]) 109 0 hC (met_sayingMany ez36 l) (lw_V q2278 q2280 qs96 q161 q2281) (by decide +kernel) (by decide) (m_recv hC) rfl rfl (Nat.le_of_ble_eq_true rfl) dX8_on_109 rfl ?_
    refine gw_icmp_ge 112 166 hC dX8_on_112 (by decide) (fun c37 => ?_) (fun c37 => ?_)
    · replace h := if_t h c37
      refine gw_sub [0] rfl ?_
      exact hk166 _ h
    · replace h := if_f h c37
      refine gw_iconst 115 hC dX8_on_115 ?_
      obtain ⟨x5_38, ex5_38, h⟩ := bnd_e h
      refine gw_istore 116 [(5, J x5_38), (0, .ref o), (2, J x2_31), (3, J x3_32), (4, J x4_33)] hC dX8_on_116 (by decide) ex5_38 rfl ?_
      refine gw_sub [1, 2, 3, 4, 0] rfl ?_
      refine wm_on_L118 hC (fun x2_53 x3_54 x4_55 s56 h => ?_) FU _ _ _ _ _ h
      · obtain ⟨x4_57, ex4_57, h⟩ := bnd_e h
        refine gw_iinc 160 3 [(4, J x4_57), (0, .ref o), (2, J x2_53), (3, J x3_54)] hC dX8_on_160 rfl ex4_57 (by decide) rfl ?_
        refine gw_goto 163 106 hC dX8_on_163 (by decide) ?_
        refine gw_sub [1, 2, 3, 0] rfl ?_
        exact ih _ _ _ _ h
theorem met_on {D : MD} {o : Nat} {s0 : MS} {res : Int × MS} (h : m_on s0 = some res) (l : Launch) : GMet l yX8_on cX8_on 6 (some .boolean) 3 (MRp D o) (MK D) (mAd o) [.ref o] s0 1 res := by
  refine GMet.of [(0, .ref o)] (by decide) (MK_moved D) (Nat.le_of_ble_eq_true rfl) rfl ?_
  intro p e s m args below meth c hC
  have hC : GC p s m args meth c cX8_on RX8 6 (some .boolean) (MK D) := hC
  unfold m_on at h
  refine gw_aload_n 0 0 hC dX8_on_0 rfl ?_
  refine mg_1 1 hC dX8_on_1 ?_
  obtain ⟨x1_1, ex1_1, h⟩ := bnd_e h
  refine gw_istore_n 4 [(1, J x1_1), (0, .ref o)] hC dX8_on_4 (by decide) ex1_1 rfl ?_
  refine gw_aload_n 5 1 hC dX8_on_5 rfl ?_
  refine gw_iconst 6 hC dX8_on_6 ?_
  obtain ⟨s2, es2, h⟩ := bnd_e h
  refine mp_1 7 hC (MIn_self o) es2 dX8_on_7 ?_
  refine gw_aload_n 10 1 hC dX8_on_10 rfl ?_
  refine gw_iload_n 11 0 hC dX8_on_11 rfl ?_
  obtain ⟨z3, ez3, h⟩ := opt_e h
  refine gw_callV (As := [J x1_1]) (rest := []) (st' := [J z3.1]) 12 1 hC (met_isImage ez3 l) (lw_V q2615 q2617 qs145 q161 q2618) (by decide +kernel) (by decide) (m_recv hC) rfl rfl (Nat.le_of_ble_eq_true rfl) dX8_on_12 rfl ?_
  refine gw_if_ne 15 30 hC dX8_on_15 (by decide) (fun c4 => ?_) (fun c4 => ?_)
  · replace h := if_f h c4
    refine gw_iconst 30 hC dX8_on_30 ?_
    refine gw_aload_n 31 1 hC dX8_on_31 rfl ?_
    obtain ⟨z5, ez5, h⟩ := opt_e h
    refine gw_callV (As := []) (rest := [J 3]) (st' := [J z5.1, J 3]) 32 0 hC (met_verbMany ez5 l) (lw_V q2259 q2261 qs92 q161 q2262) (by decide +kernel) (by decide) (m_recv hC) rfl rfl (Nat.le_of_ble_eq_true rfl) dX8_on_32 rfl ?_
    refine gw_iadd 35 hC dX8_on_35 ?_
    obtain ⟨x2_6, ex2_6, h⟩ := bnd_e h
    refine gw_istore_n 36 [(2, J x2_6), (1, J x1_1), (0, .ref o)] hC dX8_on_36 (by decide) ex2_6 rfl ?_
    refine gw_iconst 37 hC dX8_on_37 ?_
    refine gw_aload_n 38 2 hC dX8_on_38 rfl ?_
    obtain ⟨z7, ez7, h⟩ := opt_e h
    refine gw_callV (As := []) (rest := [J 2]) (st' := [J z7.1, J 2]) 39 0 hC (met_verbMany ez7 l) (lw_V q2259 q2261 qs92 q161 q2262) (by decide +kernel) (by decide) (m_recv hC) rfl rfl (Nat.le_of_ble_eq_true rfl) dX8_on_39 rfl ?_
    refine gw_iadd 42 hC dX8_on_42 ?_
    obtain ⟨x3_8, ex3_8, h⟩ := bnd_e h
    refine gw_istore_n 43 [(3, J x3_8), (2, J x2_6), (1, J x1_1), (0, .ref o)] hC dX8_on_43 (by decide) ex3_8 rfl ?_
    refine gw_aload_n 44 3 hC dX8_on_44 rfl ?_
    refine mg_48 45 hC dX8_on_45 ?_
    refine gw_iconst 48 hC dX8_on_48 ?_
    refine gw_sipush 49 hC dX8_on_49 (by decide) ?_
    refine gw_aload_n 52 3 hC dX8_on_52 rfl ?_
    refine mg_0 53 hC dX8_on_53 ?_
    refine gw_iconst 56 hC dX8_on_56 ?_
    obtain ⟨g9, h⟩ := gd_e h
    refine m_iald 57 0 hC (by decide) rfl g9 dX8_on_57 ?_
    refine gw_imul 58 hC dX8_on_58 ?_
    refine gw_aload_n 59 3 hC dX8_on_59 rfl ?_
    refine mg_0 60 hC dX8_on_60 ?_
    refine gw_iconst 63 hC dX8_on_63 ?_
    obtain ⟨g10, h⟩ := gd_e h
    refine m_iald 64 0 hC (by decide) rfl g10 dX8_on_64 ?_
    refine gw_iadd 65 hC dX8_on_65 ?_
    obtain ⟨g11, h⟩ := gd_e h
    obtain ⟨s12, es12, h⟩ := bnd_e h
    refine m_iast 66 48 hC (MIn_self o) (by decide) rfl g11 es12 dX8_on_66 ?_
    refine gw_iconst 67 hC dX8_on_67 ?_
    obtain ⟨x4_13, ex4_13, h⟩ := bnd_e h
    refine gw_istore 68 [(4, J x4_13), (3, J x3_8), (2, J x2_6), (1, J x1_1), (0, .ref o)] hC dX8_on_68 (by decide) ex4_13 rfl ?_
    refine gw_sub [4, 2, 1, 0] rfl ?_
    refine wm_on_L70 hC (fun x2_27 x3_28 s29 h => ?_) FU _ _ _ _ h
    · refine gw_iconst 103 hC dX8_on_103 ?_
      obtain ⟨x4_30, ex4_30, h⟩ := bnd_e h
      refine gw_istore 104 [(4, J x4_30), (0, .ref o), (2, J x2_27), (3, J x3_28)] hC dX8_on_104 (by decide) ex4_30 rfl ?_
      refine gw_sub [1, 2, 3, 0] rfl ?_
      refine wm_on_L106 hC (fun s58 h => ?_) FU _ _ _ _ h
      · refine gw_aload_n 166 0 hC dX8_on_166 rfl ?_
        refine mg_48 167 hC dX8_on_167 ?_
        refine gw_bipush 170 hC dX8_on_170 (by decide) ?_
        refine gw_iconst 172 hC dX8_on_172 ?_
        obtain ⟨g59, h⟩ := gd_e h
        obtain ⟨s60, es60, h⟩ := bnd_e h
        refine m_iast 173 48 hC (MIn_self o) (by decide) rfl g59 es60 dX8_on_173 ?_
        refine gw_aload_n 174 0 hC dX8_on_174 rfl ?_
        refine gw_iconst 175 hC dX8_on_175 ?_
        obtain ⟨s61, es61, h⟩ := bnd_e h
        refine mp_70 176 hC (MIn_self o) es61 dX8_on_176 ?_
        refine gw_iconst 179 hC dX8_on_179 ?_
        exact gw_zret 180 hC dX8_on_180 (by decide) h
  · replace h := if_t h c4
    refine gw_aload_n 18 1 hC dX8_on_18 rfl ?_
    refine mg_9 19 hC dX8_on_19 ?_
    refine gw_iconst 22 hC dX8_on_22 ?_
    refine gw_dup2 23 hC dX8_on_23 rfl rfl ?_
    obtain ⟨g62, h⟩ := gd_e h
    refine m_iald 24 9 hC (by decide) rfl g62 dX8_on_24 ?_
    refine gw_iconst 25 hC dX8_on_25 ?_
    refine gw_iadd 26 hC dX8_on_26 ?_
    obtain ⟨g63, h⟩ := gd_e h
    obtain ⟨s64, es64, h⟩ := bnd_e h
    refine m_iast 27 9 hC (MIn_self o) (by decide) rfl g63 es64 dX8_on_27 ?_
    refine gw_iconst 28 hC dX8_on_28 ?_
    exact gw_zret 29 hC dX8_on_29 (by decide) h
/-! status(I)I -/
noncomputable def m_status (a1 : Int) (s0 : MS) : Option (Int × MS) :=
  Option.bind (m_isIn (i32 a1) 0 5 s0) fun z2 =>
  if i32 z2.1 = 0 then
    some ((-1), z2.2)
  else
    gd (ok 6 a1) <|
    some ((z2.2 9 (i32 a1)), z2.2)
theorem met_status {D : MD} {o : Nat} {a1 : Int} {s0 : MS} {res : Int × MS} (h : m_status a1 s0 = some res) (l : Launch) : GMet l yX8_status cX8_status 2 (some .int) 2 (MRp D o) (MK D) (mAd o) [.ref o, J a1] s0 1 res := by
  refine GMet.of [(0, .ref o), (1, J a1)] (by decide) (MK_moved D) (Nat.le_of_ble_eq_true rfl) rfl ?_
  intro p e s m args below meth c hC
  have hC : GC p s m args meth c cX8_status RX8 2 (some .int) (MK D) := hC
  unfold m_status at h
  refine gw_iload_n 0 1 hC dX8_status_0 rfl ?_
  refine gw_i2l 1 hC dX8_status_1 ?_
  refine gw_lconst (v := 0) 2 hC dX8_status_2 (by decide) ?_
  refine gw_ldc2 (v := 5) 3 hC dX8_status_3 q2290 (by decide) ?_
  obtain ⟨z2, ez2, h⟩ := opt_e h
  refine gw_callS (As := [Lg (i32 a1), Lg 0, Lg 5]) (rest := []) (st' := [J z2.1]) 6 3 hC (met_isIn ez2 l) (lw_S q2123 q2124 q161 q2125) (by decide +kernel) (by decide) rfl rfl (Nat.le_of_ble_eq_true rfl) dX8_status_6 rfl ?_
  refine gw_if_eq 9 21 hC dX8_status_9 (by decide) (fun c3 => ?_) (fun c3 => ?_)
  · replace h := if_t h c3
    refine gw_iconst 21 hC dX8_status_21 ?_
    exact gw_iret 22 hC dX8_status_22 h
  · replace h := if_f h c3
    refine gw_aload_n 12 0 hC dX8_status_12 rfl ?_
    refine mg_9 13 hC dX8_status_13 ?_
    refine gw_iload_n 16 1 hC dX8_status_16 rfl ?_
    obtain ⟨g4, h⟩ := gd_e h
    refine m_iald 17 9 hC (by decide) rfl g4 dX8_status_17 ?_
    refine gw_goto 18 22 hC dX8_status_18 (by decide) ?_
    exact gw_iret 22 hC dX8_status_22 h
