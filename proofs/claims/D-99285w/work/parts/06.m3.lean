/-! THE REFERENCE: its methods as functions, and their walks (written by mall.py) -/
set_option maxRecDepth 100000
/-! isFirstRow(IZ)Z -/
noncomputable def m_isFirstRow (a1 : Int) (a2 : Int) (s0 : MS) : Option (Int × MS) :=
  gd (ok 6 0) <|
  bnd (up s0 53 (i32 0) (-1)) fun s4 =>
  Option.bind (m_isNextRow 0 a1 a2 s4) fun z5 =>
  gd (bz z5.1) <|
  some (z5.1, z5.2)
theorem met_isFirstRow {D : MD} {o : Nat} {a1 : Int} {a2 : Int} {s0 : MS} {res : Int × MS} (h : m_isFirstRow a1 a2 s0 = some res) (l : Launch) : GMet l yX8_isFirstRow cX8_isFirstRow 3 (some .boolean) 3 (MRp D o) (MK D) (mAd o) [.ref o, J a1, J a2] s0 1 res := by
  refine GMet.of [(0, .ref o), (1, J a1), (2, J a2)] (by decide) (MK_moved D) (Nat.le_of_ble_eq_true rfl) rfl ?_
  intro p e s m args below meth c hC
  have hC : GC p s m args meth c cX8_isFirstRow RX8 3 (some .boolean) (MK D) := hC
  unfold m_isFirstRow at h
  refine gw_aload_n 0 0 hC dX8_isFirstRow_0 rfl ?_
  refine mg_53 1 hC dX8_isFirstRow_1 ?_
  refine gw_iconst 4 hC dX8_isFirstRow_4 ?_
  refine gw_iconst 5 hC dX8_isFirstRow_5 ?_
  obtain ⟨g3, h⟩ := gd_e h
  obtain ⟨s4, es4, h⟩ := bnd_e h
  refine m_iast 6 53 hC (MIn_self o) (by decide) rfl g3 es4 dX8_isFirstRow_6 ?_
  refine gw_aload_n 7 0 hC dX8_isFirstRow_7 rfl ?_
  refine gw_iconst 8 hC dX8_isFirstRow_8 ?_
  refine gw_iload_n 9 1 hC dX8_isFirstRow_9 rfl ?_
  refine gw_iload_n 10 2 hC dX8_isFirstRow_10 rfl ?_
  obtain ⟨z5, ez5, h⟩ := opt_e h
  refine gw_callV (As := [J 0, J a1, J a2]) (rest := []) (st' := [J z5.1]) 11 3 hC (met_isNextRow ez5 l) (lw_V q2357 q2359 qs111 q161 q2360) (by decide +kernel) (by decide) (m_recv hC) rfl rfl (Nat.le_of_ble_eq_true rfl) dX8_isFirstRow_11 rfl ?_
  obtain ⟨g6, h⟩ := gd_e h
  exact gw_zret 14 hC dX8_isFirstRow_14 g6 h
/-! laysGiving()V -/
noncomputable def m_laysGiving_L54 (k90 : Int → Int → MS → Option (Int × MS)) : Nat → Int → Int → Int → MS → Option (Int × MS)
  | 0, _, _, _, _ => none
  | n + 1, x1_21, x3_22, x5_23, s24 =>
    Option.bind (m_sayingMany s24) fun z28 =>
    if i32 z28.1 ≤ i32 x5_23 then
      k90 x1_21 x3_22 z28.2
    else
      gd (ok 6 x5_23) <|
      gd (ok 42 ((7 * x5_23) + (z28.2 53 (i32 x5_23)))) <|
      bnd (x3_22 + (z28.2 51 (i32 ((7 * x5_23) + (z28.2 53 (i32 x5_23)))))) fun x3_32 =>
      bnd (x5_23 + 1) fun x5_33 =>
      m_laysGiving_L54 k90 n x1_21 x3_32 x5_33 z28.2
noncomputable def m_laysGiving_L114 (k143 : Int → MS → Option (Int × MS)) : Nat → Int → Int → MS → Option (Int × MS)
  | 0, _, _, _ => none
  | n + 1, x1_49, x5_50, s51 =>
    Option.bind (m_sayingMany s51) fun z54 =>
    if i32 z54.1 ≤ i32 x5_50 then
      k143 x1_49 z54.2
    else
      gd (ok 6 x5_50) <|
      gd (ok 6 x5_50) <|
      bnd (up z54.2 54 (i32 x5_50) (z54.2 53 (i32 x5_50))) fun s58 =>
      bnd (x5_50 + 1) fun x5_59 =>
      m_laysGiving_L114 k143 n x1_49 x5_59 s58
noncomputable def m_laysGiving_L45 (k164 : MS → Option (Int × MS)) : Nat → Int → Int → MS → Option (Int × MS)
  | 0, _, _, _ => none
  | n + 1, x1_14, x2_15, s16 =>
    if i32 x2_15 = 0 then
      k164 s16
    else
      bnd 0 fun x3_19 =>
      bnd 0 fun x5_20 =>
      m_laysGiving_L54
        (fun (x1_34 : Int) (x3_35 : Int) (s36 : MS) =>
          bnd (fun (x1_37 : Int) (s38 : MS) =>
              bnd (up s38 55 0 1) fun s39 =>
              Option.bind (m_sayingMany s39) fun z40 =>
              Option.bind (m_isNextRow (z40.1 - 1) x1_37 1 z40.2) fun z41 =>
              bnd z41.1 fun x2_42 =>
              m_laysGiving_L45 k164 n x1_37 x2_42 z41.2) fun j43 =>
          bnd (fun (x1_44 : Int) (x3_45 : Int) (s46 : MS) =>
              bnd (up s46 56 0 x3_45) fun s47 =>
              bnd 0 fun x5_48 =>
              m_laysGiving_L114
                (fun (x1_60 : Int) (s61 : MS) =>
                  j43 x1_60 s61)
                FU x1_44 x5_48 s47) fun j62 =>
          if i32 (s36 55 0) = 0 then
            j62 x1_34 x3_35 s36
          else
            if i64 x3_35 ≤ i64 (s36 56 0) then
              j43 x1_34 s36
            else
              j62 x1_34 x3_35 s36)
        FU x1_14 x3_19 x5_20 s16
noncomputable def m_laysGiving (s0 : MS) : Option (Int × MS) :=
  Option.bind (m_laysPairs s0) fun z1 =>
  Option.bind (m_sack z1.2) fun z2 =>
  bnd z2.1 fun x1_3 =>
  Option.bind (m_sayingMany z2.2) fun z4 =>
  bnd (fun (x1_5 : Int) (w6 : Int) (s7 : MS) =>
      gd (bz w6) <|
      bnd (up s7 55 0 w6) fun s9 =>
      bnd (up s9 56 0 0) fun s10 =>
      if i32 (s10 55 0) = 0 then
        Option.bind (m_isFirstRow x1_5 1 s10) fun z12 =>
        bnd z12.1 fun x2_13 =>
        m_laysGiving_L45
          (fun (s65 : MS) =>
            some (0, s65))
          FU x1_5 x2_13 z12.2
      else
        some (0, s10)) fun j66 =>
  if i32 z4.1 = 0 then
    j66 x1_3 1 z4.2
  else
    j66 x1_3 0 z4.2
theorem wm_laysGiving_L54 {p : Program} {l : Launch} {e : Env} {s : State} {m : MethodId} {args : Array Value} {below : List Frame} {meth : Method} {c : Code} {D : MD} {o : Nat} {res : Int × MS} {k90 : Int → Int → MS → Option (Int × MS)} (hC : GC p s m args meth c cX8_laysGiving RX8 6 none (MK D)) (hk90 : ∀ (x1_25 : Int) (x3_26 : Int) (s27 : MS), k90 x1_25 x3_26 s27 = some res → GW p l e (rmd 6) s m args below meth c 6 (mAd o) (MRp D o) (MK D) 0 res s27 90 [(0, .ref o), (1, J x1_25), (3, Lg x3_26)] []) : ∀ (n : Nat) (x1_21 : Int) (x3_22 : Int) (x5_23 : Int) (s24 : MS), m_laysGiving_L54 k90 n x1_21 x3_22 x5_23 s24 = some res → GW p l e (rmd 6) s m args below meth c 6 (mAd o) (MRp D o) (MK D) 0 res s24 54 [(0, .ref o), (1, J x1_21), (3, Lg x3_22), (5, J x5_23)] [] := by
  intro n
  induction n with
  | zero =>
    intro x1_21 x3_22 x5_23 s24 h
    cases h
  | succ n ih =>
    intro x1_21 x3_22 x5_23 s24 h
    rw [m_laysGiving_L54] at h
    refine gw_iload 54 3 hC dX8_laysGiving_54 rfl ?_
    refine gw_aload_n 56 0 hC dX8_laysGiving_56 rfl ?_
    obtain ⟨z28, ez28, h⟩ := opt_e h
    refine gw_callV (As := []) (rest := [J x5_23]) (st' := [J z28.1, J x5_23]) 57 0 hC (met_sayingMany ez28 l) (lw_V q2278 q2280 qs96 q161 q2281) (by decide +kernel) (by decide) (m_recv hC) rfl rfl (Nat.le_of_ble_eq_true rfl) dX8_laysGiving_57 rfl ?_
    refine gw_icmp_ge 60 90 hC dX8_laysGiving_60 (by decide) (fun c29 => ?_) (fun c29 => ?_)
    · replace h := if_t h c29
      refine gw_sub [0, 1, 2] rfl ?_
      exact hk90 _ _ _ h
    · replace h := if_f h c29
      refine gw_lload_n 63 2 hC dX8_laysGiving_63 rfl ?_
      refine gw_aload_n 64 0 hC dX8_laysGiving_64 rfl ?_
      refine mg_51 65 hC dX8_laysGiving_65 ?_
      refine gw_bipush 68 hC dX8_laysGiving_68 (by decide) ?_
      refine gw_iload 70 3 hC dX8_laysGiving_70 rfl ?_
      refine gw_imul 72 hC dX8_laysGiving_72 ?_
      refine gw_aload_n 73 0 hC dX8_laysGiving_73 rfl ?_
      refine mg_53 74 hC dX8_laysGiving_74 ?_
      refine gw_iload 77 3 hC dX8_laysGiving_77 rfl ?_
      obtain ⟨g30, h⟩ := gd_e h
      refine m_iald 79 53 hC (by decide) rfl g30 dX8_laysGiving_79 ?_
      refine gw_iadd 80 hC dX8_laysGiving_80 ?_
      obtain ⟨g31, h⟩ := gd_e h
      refine m_lald 81 51 hC (by decide) rfl g31 dX8_laysGiving_81 ?_
      refine gw_ladd 82 hC dX8_laysGiving_82 ?_
      obtain ⟨x3_32, ex3_32, h⟩ := bnd_e h
      refine gw_lstore_n 83 [(3, Lg x3_32), (0, .ref o), (1, J x1_21), (5, J x5_23)] hC dX8_laysGiving_83 (by decide) ex3_32 rfl ?_
      obtain ⟨x5_33, ex5_33, h⟩ := bnd_e h
      refine gw_iinc 84 3 [(5, J x5_33), (3, Lg x3_32), (0, .ref o), (1, J x1_21)] hC dX8_laysGiving_84 rfl ex5_33 (by decide) rfl ?_
      refine gw_goto 87 54 hC dX8_laysGiving_87 (by decide) ?_
      refine gw_sub [2, 3, 1, 0] rfl ?_
      exact ih _ _ _ _ h
theorem wm_laysGiving_L114 {p : Program} {l : Launch} {e : Env} {s : State} {m : MethodId} {args : Array Value} {below : List Frame} {meth : Method} {c : Code} {D : MD} {o : Nat} {res : Int × MS} {k143 : Int → MS → Option (Int × MS)} (hC : GC p s m args meth c cX8_laysGiving RX8 6 none (MK D)) (hk143 : ∀ (x1_52 : Int) (s53 : MS), k143 x1_52 s53 = some res → GW p l e (rmd 6) s m args below meth c 6 (mAd o) (MRp D o) (MK D) 0 res s53 143 [(0, .ref o), (1, J x1_52)] []) : ∀ (n : Nat) (x1_49 : Int) (x5_50 : Int) (s51 : MS), m_laysGiving_L114 k143 n x1_49 x5_50 s51 = some res → GW p l e (rmd 6) s m args below meth c 6 (mAd o) (MRp D o) (MK D) 0 res s51 114 [(0, .ref o), (1, J x1_49), (5, J x5_50)] [] := by
  intro n
  induction n with
  | zero =>
    intro x1_49 x5_50 s51 h
    cases h
  | succ n ih =>
    intro x1_49 x5_50 s51 h
    rw [m_laysGiving_L114] at h
    refine gw_iload 114 2 hC dX8_laysGiving_114 rfl ?_
    refine gw_aload_n 116 0 hC dX8_laysGiving_116 rfl ?_
    obtain ⟨z54, ez54, h⟩ := opt_e h
    refine gw_callV (As := []) (rest := [J x5_50]) (st' := [J z54.1, J x5_50]) 117 0 hC (met_sayingMany ez54 l) (lw_V q2278 q2280 qs96 q161 q2281) (by decide +kernel) (by decide) (m_recv hC) rfl rfl (Nat.le_of_ble_eq_true rfl) dX8_laysGiving_117 rfl ?_
    refine gw_icmp_ge 120 143 hC dX8_laysGiving_120 (by decide) (fun c55 => ?_) (fun c55 => ?_)
    · replace h := if_t h c55
      refine gw_sub [0, 1] rfl ?_
      exact hk143 _ _ h
    · replace h := if_f h c55
      refine gw_aload_n 123 0 hC dX8_laysGiving_123 rfl ?_
      refine mg_54 124 hC dX8_laysGiving_124 ?_
      refine gw_iload 127 2 hC dX8_laysGiving_127 rfl ?_
      refine gw_aload_n 129 0 hC dX8_laysGiving_129 rfl ?_
      refine mg_53 130 hC dX8_laysGiving_130 ?_
      refine gw_iload 133 2 hC dX8_laysGiving_133 rfl ?_
      obtain ⟨g56, h⟩ := gd_e h
      refine m_iald 135 53 hC (by decide) rfl g56 dX8_laysGiving_135 ?_
      obtain ⟨g57, h⟩ := gd_e h
      obtain ⟨s58, es58, h⟩ := bnd_e h
      refine m_iast 136 54 hC (MIn_self o) (by decide) rfl g57 es58 dX8_laysGiving_136 ?_
      obtain ⟨x5_59, ex5_59, h⟩ := bnd_e h
      refine gw_iinc 137 2 [(5, J x5_59), (0, .ref o), (1, J x1_49)] hC dX8_laysGiving_137 rfl ex5_59 (by decide) rfl ?_
      refine gw_goto 140 114 hC dX8_laysGiving_140 (by decide) ?_
      refine gw_sub [1, 2, 0] rfl ?_
      exact ih _ _ _ h
theorem wm_laysGiving_L45 {p : Program} {l : Launch} {e : Env} {s : State} {m : MethodId} {args : Array Value} {below : List Frame} {meth : Method} {c : Code} {D : MD} {o : Nat} {res : Int × MS} {k164 : MS → Option (Int × MS)} (hC : GC p s m args meth c cX8_laysGiving RX8 6 none (MK D)) (hk164 : ∀ (s17 : MS), k164 s17 = some res → GW p l e (rmd 6) s m args below meth c 6 (mAd o) (MRp D o) (MK D) 0 res s17 164 [] []) : ∀ (n : Nat) (x1_14 : Int) (x2_15 : Int) (s16 : MS), m_laysGiving_L45 k164 n x1_14 x2_15 s16 = some res → GW p l e (rmd 6) s m args below meth c 6 (mAd o) (MRp D o) (MK D) 0 res s16 45 [(0, .ref o), (1, J x1_14), (2, J x2_15)] [] := by
  intro n
  induction n with
  | zero =>
    intro x1_14 x2_15 s16 h
    cases h
  | succ n ih =>
    intro x1_14 x2_15 s16 h
    rw [m_laysGiving_L45] at h
    refine gw_iload_n 45 2 hC dX8_laysGiving_45 rfl ?_
    refine gw_if_eq 46 164 hC dX8_laysGiving_46 (by decide) (fun c18 => ?_) (fun c18 => ?_)
    · replace h := if_t h c18
      refine gw_sub [] rfl ?_
      exact hk164 _ h
    · replace h := if_f h c18
      refine gw_lconst (v := 0) 49 hC dX8_laysGiving_49 (by decide) ?_
      obtain ⟨x3_19, ex3_19, h⟩ := bnd_e h
      refine gw_lstore_n 50 [(3, Lg x3_19), (0, .ref o), (1, J x1_14), (2, J x2_15)] hC dX8_laysGiving_50 (by decide) ex3_19 rfl ?_
      refine gw_iconst 51 hC dX8_laysGiving_51 ?_
      obtain ⟨x5_20, ex5_20, h⟩ := bnd_e h
      refine gw_istore 52 [(5, J x5_20), (3, Lg x3_19), (0, .ref o), (1, J x1_14), (2, J x2_15)] hC dX8_laysGiving_52 (by decide) ex5_20 rfl ?_
      refine gw_sub [2, 3, 1, 0] rfl ?_
      refine wm_laysGiving_L54 hC (fun x1_34 x3_35 s36 h => ?_) FU _ _ _ _ h
      · refine gw_aload_n 90 0 hC dX8_laysGiving_90 rfl ?_
        refine mg_55 91 hC dX8_laysGiving_91 ?_
        obtain ⟨j43, ej43, h⟩ := bnd_e h
        have hj43 : ∀ (x1_37 : Int) (s38 : MS), j43 x1_37 s38 = some res → GW p l e (rmd 6) s m args below meth c 6 (mAd o) (MRp D o) (MK D) 0 res s38 143 [(0, .ref o), (1, J x1_37)] [] := by
          clear h
          intro x1_37 s38 h
          subst ej43
          refine gw_aload_n 143 0 hC dX8_laysGiving_143 rfl ?_
          refine gw_iconst 144 hC dX8_laysGiving_144 ?_
          obtain ⟨s39, es39, h⟩ := bnd_e h
          refine mp_55 145 hC (MIn_self o) (by decide) es39 dX8_laysGiving_145 ?_
          refine gw_aload_n 148 0 hC dX8_laysGiving_148 rfl ?_
          refine gw_aload_n 149 0 hC dX8_laysGiving_149 rfl ?_
          obtain ⟨z40, ez40, h⟩ := opt_e h
          refine gw_callV (As := []) (rest := [.ref o]) (st' := [J z40.1, .ref o]) 150 0 hC (met_sayingMany ez40 l) (lw_V q2278 q2280 qs96 q161 q2281) (by decide +kernel) (by decide) (m_recv hC) rfl rfl (Nat.le_of_ble_eq_true rfl) dX8_laysGiving_150 rfl ?_
          refine gw_iconst 153 hC dX8_laysGiving_153 ?_
          refine gw_isub 154 hC dX8_laysGiving_154 ?_
          refine gw_iload_n 155 1 hC dX8_laysGiving_155 rfl ?_
          refine gw_iconst 156 hC dX8_laysGiving_156 ?_
          obtain ⟨z41, ez41, h⟩ := opt_e h
          refine gw_callV (As := [J (z40.1 - 1), J x1_37, J 1]) (rest := []) (st' := [J z41.1]) 157 3 hC (met_isNextRow ez41 l) (lw_V q2357 q2359 qs111 q161 q2360) (by decide +kernel) (by decide) (m_recv hC) rfl rfl (Nat.le_of_ble_eq_true rfl) dX8_laysGiving_157 rfl ?_
          obtain ⟨x2_42, ex2_42, h⟩ := bnd_e h
          refine gw_istore_n 160 [(2, J x2_42), (0, .ref o), (1, J x1_37)] hC dX8_laysGiving_160 (by decide) ex2_42 rfl ?_
          refine gw_goto 161 45 hC dX8_laysGiving_161 (by decide) ?_
          refine gw_sub [1, 2, 0] rfl ?_
          exact ih _ _ _ h
        obtain ⟨j62, ej62, h⟩ := bnd_e h
        have hj62 : ∀ (x1_44 : Int) (x3_45 : Int) (s46 : MS), j62 x1_44 x3_45 s46 = some res → GW p l e (rmd 6) s m args below meth c 6 (mAd o) (MRp D o) (MK D) 0 res s46 106 [(0, .ref o), (1, J x1_44), (3, Lg x3_45)] [] := by
          clear h
          intro x1_44 x3_45 s46 h
          subst ej62
          refine gw_aload_n 106 0 hC dX8_laysGiving_106 rfl ?_
          refine gw_lload_n 107 2 hC dX8_laysGiving_107 rfl ?_
          obtain ⟨s47, es47, h⟩ := bnd_e h
          refine mp_56 108 hC (MIn_self o) es47 dX8_laysGiving_108 ?_
          refine gw_iconst 111 hC dX8_laysGiving_111 ?_
          obtain ⟨x5_48, ex5_48, h⟩ := bnd_e h
          refine gw_istore 112 [(5, J x5_48), (0, .ref o), (1, J x1_44), (3, Lg x3_45)] hC dX8_laysGiving_112 (by decide) ex5_48 rfl ?_
          refine gw_sub [1, 2, 0] rfl ?_
          refine wm_laysGiving_L114 hC (fun x1_60 s61 h => ?_) FU _ _ _ h
          · refine gw_sub [0, 1] rfl ?_
            exact hj43 _ _ h
        refine gw_if_eq 94 106 hC dX8_laysGiving_94 (by decide) (fun c63 => ?_) (fun c63 => ?_)
        · replace h := if_t h c63
          refine gw_sub [0, 1, 2] rfl ?_
          exact hj62 _ _ _ h
        · replace h := if_f h c63
          refine gw_lload_n 97 2 hC dX8_laysGiving_97 rfl ?_
          refine gw_aload_n 98 0 hC dX8_laysGiving_98 rfl ?_
          refine mg_56 99 hC dX8_laysGiving_99 ?_
          refine gw_lcmp_le 102 143 hC dX8_laysGiving_102 dX8_laysGiving_103 (by decide) (fun c64 => ?_) (fun c64 => ?_)
          · replace h := if_t h c64
            refine gw_sub [0, 1] rfl ?_
            exact hj43 _ _ h
          · replace h := if_f h c64
            refine gw_sub [0, 1, 2] rfl ?_
            exact hj62 _ _ _ h
theorem met_laysGiving {D : MD} {o : Nat} {s0 : MS} {res : Int × MS} (h : m_laysGiving s0 = some res) (l : Launch) : GMet l yX8_laysGiving cX8_laysGiving 6 none 6 (MRp D o) (MK D) (mAd o) [.ref o] s0 0 res := by
  refine GMet.of [(0, .ref o)] (by decide) (MK_moved D) (Nat.le_of_ble_eq_true rfl) rfl ?_
  intro p e s m args below meth c hC
  have hC : GC p s m args meth c cX8_laysGiving RX8 6 none (MK D) := hC
  unfold m_laysGiving at h
  refine gw_aload_n 0 0 hC dX8_laysGiving_0 rfl ?_
  obtain ⟨z1, ez1, h⟩ := opt_e h
  refine gw_callV (As := []) (rest := []) (st' := []) 1 0 hC (met_laysPairs ez1 l) (lw_V q2304 q2306 qs100 q161 q2307) (by decide +kernel) (by decide) (m_recv hC) rfl rfl (Nat.le_of_ble_eq_true rfl) dX8_laysGiving_1 rfl ?_
  refine gw_aload_n 4 0 hC dX8_laysGiving_4 rfl ?_
  obtain ⟨z2, ez2, h⟩ := opt_e h
  refine gw_callV (As := []) (rest := []) (st' := [J z2.1]) 5 0 hC (met_sack ez2 l) (lw_V q2263 q2265 qs93 q161 q2266) (by decide +kernel) (by decide) (m_recv hC) rfl rfl (Nat.le_of_ble_eq_true rfl) dX8_laysGiving_5 rfl ?_
  obtain ⟨x1_3, ex1_3, h⟩ := bnd_e h
  refine gw_istore_n 8 [(1, J x1_3), (0, .ref o)] hC dX8_laysGiving_8 (by decide) ex1_3 rfl ?_
  refine gw_aload_n 9 1 hC dX8_laysGiving_9 rfl ?_
  refine gw_aload_n 10 1 hC dX8_laysGiving_10 rfl ?_
  obtain ⟨z4, ez4, h⟩ := opt_e h
  refine gw_callV (As := []) (rest := [.ref o]) (st' := [J z4.1, .ref o]) 11 0 hC (met_sayingMany ez4 l) (lw_V q2278 q2280 qs96 q161 q2281) (by decide +kernel) (by decide) (m_recv hC) rfl rfl (Nat.le_of_ble_eq_true rfl) dX8_laysGiving_11 rfl ?_
  obtain ⟨j66, ej66, h⟩ := bnd_e h
  have hj66 : ∀ (x1_5 : Int) (w6 : Int) (s7 : MS), j66 x1_5 w6 s7 = some res → GW p l e (rmd 6) s m args below meth c 6 (mAd o) (MRp D o) (MK D) 0 res s7 22 [(0, .ref o), (1, J x1_5)] [J w6, .ref o] := by
    clear h
    intro x1_5 w6 s7 h
    subst ej66
    obtain ⟨g8, h⟩ := gd_e h
    obtain ⟨s9, es9, h⟩ := bnd_e h
    refine mp_55 22 hC (MIn_self o) g8 es9 dX8_laysGiving_22 ?_
    refine gw_aload_n 25 0 hC dX8_laysGiving_25 rfl ?_
    refine gw_lconst (v := 0) 26 hC dX8_laysGiving_26 (by decide) ?_
    obtain ⟨s10, es10, h⟩ := bnd_e h
    refine mp_56 27 hC (MIn_self o) es10 dX8_laysGiving_27 ?_
    refine gw_aload_n 30 0 hC dX8_laysGiving_30 rfl ?_
    refine mg_55 31 hC dX8_laysGiving_31 ?_
    refine gw_if_eq 34 38 hC dX8_laysGiving_34 (by decide) (fun c11 => ?_) (fun c11 => ?_)
    · replace h := if_t h c11
      refine gw_aload_n 38 0 hC dX8_laysGiving_38 rfl ?_
      refine gw_iload_n 39 1 hC dX8_laysGiving_39 rfl ?_
      refine gw_iconst 40 hC dX8_laysGiving_40 ?_
      obtain ⟨z12, ez12, h⟩ := opt_e h
      refine gw_callV (As := [J x1_5, J 1]) (rest := []) (st' := [J z12.1]) 41 2 hC (met_isFirstRow ez12 l) (lw_V q2353 q2355 qs110 q161 q2356) (by decide +kernel) (by decide) (m_recv hC) rfl rfl (Nat.le_of_ble_eq_true rfl) dX8_laysGiving_41 rfl ?_
      obtain ⟨x2_13, ex2_13, h⟩ := bnd_e h
      refine gw_istore_n 44 [(2, J x2_13), (0, .ref o), (1, J x1_5)] hC dX8_laysGiving_44 (by decide) ex2_13 rfl ?_
      refine gw_sub [1, 2, 0] rfl ?_
      refine wm_laysGiving_L45 hC (fun s65 h => ?_) FU _ _ _ h
      · exact gw_vret 164 hC dX8_laysGiving_164 h
    · replace h := if_f h c11
      exact gw_vret 37 hC dX8_laysGiving_37 h
  refine gw_if_ne 14 21 hC dX8_laysGiving_14 (by decide) (fun c67 => ?_) (fun c67 => ?_)
  · replace h := if_f h c67
    refine gw_iconst 21 hC dX8_laysGiving_21 ?_
    refine gw_sub [1, 0] rfl ?_
    exact hj66 _ _ _ h
  · replace h := if_t h c67
    refine gw_iconst 17 hC dX8_laysGiving_17 ?_
    refine gw_goto 18 22 hC dX8_laysGiving_18 (by decide) ?_
    refine gw_sub [1, 0] rfl ?_
    exact hj66 _ _ _ h
/-! stepsTo(III)I -/
noncomputable def m_stepsTo (a1 : Int) (a2 : Int) (a3 : Int) (s0 : MS) : Option (Int × MS) :=
  Option.bind (m_columnOf a3 s0) fun z4 =>
  bnd (z4.1 - a1) fun x4_5 =>
  Option.bind (m_rowOf a3 z4.2) fun z6 =>
  bnd (z6.1 - a2) fun x5_7 =>
  bnd (fun (x5_8 : Int) (w9 : Int) (s10 : MS) =>
      bnd (fun (w11 : Int) (w12 : Int) (s13 : MS) =>
          some ((w12 + w11), s13)) fun j14 =>
      if 0 ≤ i32 x5_8 then
        j14 x5_8 w9 s10
      else
        j14 (-x5_8) w9 s10) fun j16 =>
  if 0 ≤ i32 x4_5 then
    j16 x5_7 x4_5 z6.2
  else
    j16 x5_7 (-x4_5) z6.2
theorem met_stepsTo {D : MD} {o : Nat} {a1 : Int} {a2 : Int} {a3 : Int} {s0 : MS} {res : Int × MS} (h : m_stepsTo a1 a2 a3 s0 = some res) (l : Launch) : GMet l yX8_stepsTo cX8_stepsTo 6 (some .int) 2 (MRp D o) (MK D) (mAd o) [.ref o, J a1, J a2, J a3] s0 1 res := by
  refine GMet.of [(0, .ref o), (1, J a1), (2, J a2), (3, J a3)] (by decide) (MK_moved D) (Nat.le_of_ble_eq_true rfl) rfl ?_
  intro p e s m args below meth c hC
  have hC : GC p s m args meth c cX8_stepsTo RX8 6 (some .int) (MK D) := hC
  unfold m_stepsTo at h
  refine gw_aload_n 0 0 hC dX8_stepsTo_0 rfl ?_
  refine gw_iload_n 1 3 hC dX8_stepsTo_1 rfl ?_
  obtain ⟨z4, ez4, h⟩ := opt_e h
  refine gw_callV (As := [J a3]) (rest := []) (st' := [J z4.1]) 2 1 hC (met_columnOf ez4 l) (lw_V q2328 q2330 qs106 q161 q2331) (by decide +kernel) (by decide) (m_recv hC) rfl rfl (Nat.le_of_ble_eq_true rfl) dX8_stepsTo_2 rfl ?_
  refine gw_iload_n 5 1 hC dX8_stepsTo_5 rfl ?_
  refine gw_isub 6 hC dX8_stepsTo_6 ?_
  obtain ⟨x4_5, ex4_5, h⟩ := bnd_e h
  refine gw_istore 7 [(4, J x4_5), (0, .ref o), (1, J a1), (2, J a2), (3, J a3)] hC dX8_stepsTo_7 (by decide) ex4_5 rfl ?_
  refine gw_aload_n 9 1 hC dX8_stepsTo_9 rfl ?_
  refine gw_iload_n 10 4 hC dX8_stepsTo_10 rfl ?_
  obtain ⟨z6, ez6, h⟩ := opt_e h
  refine gw_callV (As := [J a3]) (rest := []) (st' := [J z6.1]) 11 1 hC (met_rowOf ez6 l) (lw_V q2332 q2334 qs107 q161 q2335) (by decide +kernel) (by decide) (m_recv hC) rfl rfl (Nat.le_of_ble_eq_true rfl) dX8_stepsTo_11 rfl ?_
  refine gw_iload_n 14 3 hC dX8_stepsTo_14 rfl ?_
  refine gw_isub 15 hC dX8_stepsTo_15 ?_
  obtain ⟨x5_7, ex5_7, h⟩ := bnd_e h
  refine gw_istore 16 [(5, J x5_7), (4, J x4_5), (0, .ref o), (1, J a1), (2, J a2), (3, J a3)] hC dX8_stepsTo_16 (by decide) ex5_7 rfl ?_
  refine gw_iload 18 1 hC dX8_stepsTo_18 rfl ?_
  obtain ⟨j16, ej16, h⟩ := bnd_e h
  have hj16 : ∀ (x5_8 : Int) (w9 : Int) (s10 : MS), j16 x5_8 w9 s10 = some res → GW p l e (rmd 2) s m args below meth c 6 (mAd o) (MRp D o) (MK D) 1 res s10 31 [(5, J x5_8)] [J w9] := by
    clear h
    intro x5_8 w9 s10 h
    subst ej16
    refine gw_iload 31 0 hC dX8_stepsTo_31 rfl ?_
    obtain ⟨j14, ej14, h⟩ := bnd_e h
    have hj14 : ∀ (w11 : Int) (w12 : Int) (s13 : MS), j14 w11 w12 s13 = some res → GW p l e (rmd 2) s m args below meth c 6 (mAd o) (MRp D o) (MK D) 1 res s13 44 [] [J w11, J w12] := by
      clear h
      intro w11 w12 s13 h
      subst ej14
      refine gw_iadd 44 hC dX8_stepsTo_44 ?_
      exact gw_iret 45 hC dX8_stepsTo_45 h
    refine gw_if_ge 33 42 hC dX8_stepsTo_33 (by decide) (fun c15 => ?_) (fun c15 => ?_)
    · replace h := if_t h c15
      refine gw_iload 42 0 hC dX8_stepsTo_42 rfl ?_
      refine gw_sub [] rfl ?_
      exact hj14 _ _ _ h
    · replace h := if_f h c15
      refine gw_iload 36 0 hC dX8_stepsTo_36 rfl ?_
      refine gw_ineg 38 hC dX8_stepsTo_38 ?_
      refine gw_goto 39 44 hC dX8_stepsTo_39 (by decide) ?_
      refine gw_sub [] rfl ?_
      exact hj14 _ _ _ h
  refine gw_if_ge 20 29 hC dX8_stepsTo_20 (by decide) (fun c17 => ?_) (fun c17 => ?_)
  · replace h := if_t h c17
    refine gw_iload 29 1 hC dX8_stepsTo_29 rfl ?_
    refine gw_sub [0] rfl ?_
    exact hj16 _ _ _ h
  · replace h := if_f h c17
    refine gw_iload 23 1 hC dX8_stepsTo_23 rfl ?_
    refine gw_ineg 25 hC dX8_stepsTo_25 ?_
    refine gw_goto 26 31 hC dX8_stepsTo_26 (by decide) ?_
    refine gw_sub [0] rfl ?_
    exact hj16 _ _ _ h
/-! orderLong()I -/
noncomputable def m_orderLong_L9 (k64 : Int → MS → Option (Int × MS)) : Nat → Int → Int → Int → Int → MS → Option (Int × MS)
  | 0, _, _, _, _, _ => none
  | n + 1, x1_5, x2_6, x3_7, x4_8, s9 =>
    Option.bind (m_sayingMany s9) fun z12 =>
    if i32 z12.1 ≤ i32 x4_8 then
      k64 x1_5 z12.2
    else
      gd (ok 6 x4_8) <|
      Option.bind (m_stepsTo x2_6 x3_7 (z12.2 57 (i32 x4_8)) z12.2) fun z15 =>
      bnd (x1_5 + z15.1) fun x1_16 =>
      gd (ok 6 x4_8) <|
      Option.bind (m_columnOf (z15.2 57 (i32 x4_8)) z15.2) fun z18 =>
      bnd z18.1 fun x2_19 =>
      gd (ok 6 x4_8) <|
      Option.bind (m_rowOf (z18.2 57 (i32 x4_8)) z18.2) fun z21 =>
      bnd z21.1 fun x3_22 =>
      bnd (x4_8 + 1) fun x4_23 =>
      m_orderLong_L9 k64 n x1_16 x2_19 x3_22 x4_23 z21.2
noncomputable def m_orderLong (s0 : MS) : Option (Int × MS) :=
  bnd 0 fun x1_1 =>
  bnd 0 fun x2_2 =>
  bnd 0 fun x3_3 =>
  bnd 0 fun x4_4 =>
  m_orderLong_L9
    (fun (x1_24 : Int) (s25 : MS) =>
      some (x1_24, s25))
    FU x1_1 x2_2 x3_3 x4_4 s0
theorem wm_orderLong_L9 {p : Program} {l : Launch} {e : Env} {s : State} {m : MethodId} {args : Array Value} {below : List Frame} {meth : Method} {c : Code} {D : MD} {o : Nat} {res : Int × MS} {k64 : Int → MS → Option (Int × MS)} (hC : GC p s m args meth c cX8_orderLong RX8 5 (some .int) (MK D)) (hk64 : ∀ (x1_10 : Int) (s11 : MS), k64 x1_10 s11 = some res → GW p l e (rmd 3) s m args below meth c 5 (mAd o) (MRp D o) (MK D) 1 res s11 64 [(1, J x1_10)] []) : ∀ (n : Nat) (x1_5 : Int) (x2_6 : Int) (x3_7 : Int) (x4_8 : Int) (s9 : MS), m_orderLong_L9 k64 n x1_5 x2_6 x3_7 x4_8 s9 = some res → GW p l e (rmd 3) s m args below meth c 5 (mAd o) (MRp D o) (MK D) 1 res s9 9 [(0, .ref o), (1, J x1_5), (2, J x2_6), (3, J x3_7), (4, J x4_8)] [] := by
  intro n
  induction n with
  | zero =>
    intro x1_5 x2_6 x3_7 x4_8 s9 h
    cases h
  | succ n ih =>
    intro x1_5 x2_6 x3_7 x4_8 s9 h
    rw [m_orderLong_L9] at h
    refine gw_iload 9 4 hC dX8_orderLong_9 rfl ?_
    refine gw_aload_n 11 0 hC dX8_orderLong_11 rfl ?_
    obtain ⟨z12, ez12, h⟩ := opt_e h
    refine gw_callV (As := []) (rest := [J x4_8]) (st' := [J z12.1, J x4_8]) 12 0 hC (met_sayingMany ez12 l) (lw_V q2278 q2280 qs96 q161 q2281) (by decide +kernel) (by decide) (m_recv hC) rfl rfl (Nat.le_of_ble_eq_true rfl) dX8_orderLong_12 rfl ?_
    refine gw_icmp_ge 15 64 hC dX8_orderLong_15 (by decide) (fun c13 => ?_) (fun c13 => ?_)
    · replace h := if_t h c13
      refine gw_sub [1] rfl ?_
      exact hk64 _ _ h
    · replace h := if_f h c13
      refine gw_iload_n 18 1 hC dX8_orderLong_18 rfl ?_
      refine gw_aload_n 19 0 hC dX8_orderLong_19 rfl ?_
      refine gw_iload_n 20 2 hC dX8_orderLong_20 rfl ?_
      refine gw_iload_n 21 3 hC dX8_orderLong_21 rfl ?_
      refine gw_aload_n 22 0 hC dX8_orderLong_22 rfl ?_
      refine mg_57 23 hC dX8_orderLong_23 ?_
      refine gw_iload 26 4 hC dX8_orderLong_26 rfl ?_
      obtain ⟨g14, h⟩ := gd_e h
      refine m_iald 28 57 hC (by decide) rfl g14 dX8_orderLong_28 ?_
      obtain ⟨z15, ez15, h⟩ := opt_e h
      refine gw_callV (As := [J x2_6, J x3_7, J (z12.2 57 (i32 x4_8))]) (rest := [J x1_5]) (st' := [J z15.1, J x1_5]) 29 3 hC (met_stepsTo ez15 l) (lw_V q2373 q2375 qs115 q161 q2376) (by decide +kernel) (by decide) (m_recv hC) rfl rfl (Nat.le_of_ble_eq_true rfl) dX8_orderLong_29 rfl ?_
      refine gw_iadd 32 hC dX8_orderLong_32 ?_
      obtain ⟨x1_16, ex1_16, h⟩ := bnd_e h
      refine gw_istore_n 33 [(1, J x1_16), (0, .ref o), (2, J x2_6), (3, J x3_7), (4, J x4_8)] hC dX8_orderLong_33 (by decide) ex1_16 rfl ?_
      refine gw_aload_n 34 1 hC dX8_orderLong_34 rfl ?_
      refine gw_aload_n 35 1 hC dX8_orderLong_35 rfl ?_
      refine mg_57 36 hC dX8_orderLong_36 ?_
      refine gw_iload 39 4 hC dX8_orderLong_39 rfl ?_
      obtain ⟨g17, h⟩ := gd_e h
      refine m_iald 41 57 hC (by decide) rfl g17 dX8_orderLong_41 ?_
      obtain ⟨z18, ez18, h⟩ := opt_e h
      refine gw_callV (As := [J (z15.2 57 (i32 x4_8))]) (rest := []) (st' := [J z18.1]) 42 1 hC (met_columnOf ez18 l) (lw_V q2328 q2330 qs106 q161 q2331) (by decide +kernel) (by decide) (m_recv hC) rfl rfl (Nat.le_of_ble_eq_true rfl) dX8_orderLong_42 rfl ?_
      obtain ⟨x2_19, ex2_19, h⟩ := bnd_e h
      refine gw_istore_n 45 [(2, J x2_19), (1, J x1_16), (0, .ref o), (3, J x3_7), (4, J x4_8)] hC dX8_orderLong_45 (by decide) ex2_19 rfl ?_
      refine gw_aload_n 46 2 hC dX8_orderLong_46 rfl ?_
      refine gw_aload_n 47 2 hC dX8_orderLong_47 rfl ?_
      refine mg_57 48 hC dX8_orderLong_48 ?_
      refine gw_iload 51 4 hC dX8_orderLong_51 rfl ?_
      obtain ⟨g20, h⟩ := gd_e h
      refine m_iald 53 57 hC (by decide) rfl g20 dX8_orderLong_53 ?_
      obtain ⟨z21, ez21, h⟩ := opt_e h
      refine gw_callV (As := [J (z18.2 57 (i32 x4_8))]) (rest := []) (st' := [J z21.1]) 54 1 hC (met_rowOf ez21 l) (lw_V q2332 q2334 qs107 q161 q2335) (by decide +kernel) (by decide) (m_recv hC) rfl rfl (Nat.le_of_ble_eq_true rfl) dX8_orderLong_54 rfl ?_
      obtain ⟨x3_22, ex3_22, h⟩ := bnd_e h
      refine gw_istore_n 57 [(3, J x3_22), (2, J x2_19), (1, J x1_16), (0, .ref o), (4, J x4_8)] hC dX8_orderLong_57 (by decide) ex3_22 rfl ?_
      obtain ⟨x4_23, ex4_23, h⟩ := bnd_e h
      refine gw_iinc 58 4 [(4, J x4_23), (3, J x3_22), (2, J x2_19), (1, J x1_16), (0, .ref o)] hC dX8_orderLong_58 rfl ex4_23 (by decide) rfl ?_
      refine gw_goto 61 9 hC dX8_orderLong_61 (by decide) ?_
      refine gw_sub [4, 3, 2, 1, 0] rfl ?_
      exact ih _ _ _ _ _ h
theorem met_orderLong {D : MD} {o : Nat} {s0 : MS} {res : Int × MS} (h : m_orderLong s0 = some res) (l : Launch) : GMet l yX8_orderLong cX8_orderLong 5 (some .int) 3 (MRp D o) (MK D) (mAd o) [.ref o] s0 1 res := by
  refine GMet.of [(0, .ref o)] (by decide) (MK_moved D) (Nat.le_of_ble_eq_true rfl) rfl ?_
  intro p e s m args below meth c hC
  have hC : GC p s m args meth c cX8_orderLong RX8 5 (some .int) (MK D) := hC
  unfold m_orderLong at h
  refine gw_iconst 0 hC dX8_orderLong_0 ?_
  obtain ⟨x1_1, ex1_1, h⟩ := bnd_e h
  refine gw_istore_n 1 [(1, J x1_1), (0, .ref o)] hC dX8_orderLong_1 (by decide) ex1_1 rfl ?_
  refine gw_iconst 2 hC dX8_orderLong_2 ?_
  obtain ⟨x2_2, ex2_2, h⟩ := bnd_e h
  refine gw_istore_n 3 [(2, J x2_2), (1, J x1_1), (0, .ref o)] hC dX8_orderLong_3 (by decide) ex2_2 rfl ?_
  refine gw_iconst 4 hC dX8_orderLong_4 ?_
  obtain ⟨x3_3, ex3_3, h⟩ := bnd_e h
  refine gw_istore_n 5 [(3, J x3_3), (2, J x2_2), (1, J x1_1), (0, .ref o)] hC dX8_orderLong_5 (by decide) ex3_3 rfl ?_
  refine gw_iconst 6 hC dX8_orderLong_6 ?_
  obtain ⟨x4_4, ex4_4, h⟩ := bnd_e h
  refine gw_istore 7 [(4, J x4_4), (3, J x3_3), (2, J x2_2), (1, J x1_1), (0, .ref o)] hC dX8_orderLong_7 (by decide) ex4_4 rfl ?_
  refine gw_sub [4, 3, 2, 1, 0] rfl ?_
  refine wm_orderLong_L9 hC (fun x1_24 s25 h => ?_) FU _ _ _ _ _ h
  · refine gw_iload_n 64 0 hC dX8_orderLong_64 rfl ?_
    exact gw_iret 65 hC dX8_orderLong_65 h
/-! isNextOrder(I)Z -/
noncomputable def m_isNextOrder_L4 (k31 : Int → Int → MS → Option (Int × MS)) : Nat → Int → Int → MS → Option (Int × MS)
  | 0, _, _, _ => none
  | n + 1, x1_3, x2_4, s5 =>
    if i32 x2_4 < 0 then
      k31 x1_3 x2_4 s5
    else
      gd (ok 6 x2_4) <|
      gd (ok 6 (x2_4 + 1)) <|
      if i32 (s5 57 (i32 x2_4)) ≤ i32 (s5 57 (i32 (x2_4 + 1))) then
        k31 x1_3 x2_4 s5
      else
        bnd (x2_4 + (-1)) fun x2_13 =>
        m_isNextOrder_L4 k31 n x1_3 x2_13 s5
noncomputable def m_isNextOrder_L41 (k62 : Int → Int → Int → MS → Option (Int × MS)) : Nat → Int → Int → Int → MS → Option (Int × MS)
  | 0, _, _, _, _ => none
  | n + 1, x1_19, x2_20, x3_21, s22 =>
    gd (ok 6 x3_21) <|
    gd (ok 6 x2_20) <|
    if i32 (s22 57 (i32 x2_20)) ≤ i32 (s22 57 (i32 x3_21)) then
      k62 x1_19 x2_20 x3_21 s22
    else
      bnd (x3_21 + (-1)) fun x3_30 =>
      m_isNextOrder_L41 k62 n x1_19 x2_20 x3_30 s22
noncomputable def m_isNextOrder_L100 (k148 : MS → Option (Int × MS)) : Nat → Int → Int → MS → Option (Int × MS)
  | 0, _, _, _ => none
  | n + 1, x5_44, x6_45, s46 =>
    if i32 x6_45 ≤ i32 x5_44 then
      k148 s46
    else
      gd (ok 6 x5_44) <|
      bnd (s46 57 (i32 x5_44)) fun x4_50 =>
      gd (ok 6 x6_45) <|
      gd (ok 6 x5_44) <|
      bnd (up s46 57 (i32 x5_44) (s46 57 (i32 x6_45))) fun s53 =>
      gd (ok 6 x6_45) <|
      bnd (up s53 57 (i32 x6_45) x4_50) fun s55 =>
      bnd (x5_44 + 1) fun x5_56 =>
      bnd (x6_45 + (-1)) fun x6_57 =>
      m_isNextOrder_L100 k148 n x5_56 x6_57 s55
noncomputable def m_isNextOrder (a1 : Int) (s0 : MS) : Option (Int × MS) :=
  bnd (a1 - 2) fun x2_2 =>
  m_isNextOrder_L4
    (fun (x1_14 : Int) (x2_15 : Int) (s16 : MS) =>
      if 0 ≤ i32 x2_15 then
        bnd (x1_14 - 1) fun x3_18 =>
        m_isNextOrder_L41
          (fun (x1_31 : Int) (x2_32 : Int) (x3_33 : Int) (s34 : MS) =>
            gd (ok 6 x2_32) <|
            bnd (s34 57 (i32 x2_32)) fun x4_36 =>
            gd (ok 6 x3_33) <|
            gd (ok 6 x2_32) <|
            bnd (up s34 57 (i32 x2_32) (s34 57 (i32 x3_33))) fun s39 =>
            gd (ok 6 x3_33) <|
            bnd (up s39 57 (i32 x3_33) x4_36) fun s41 =>
            bnd (x2_32 + 1) fun x5_42 =>
            bnd (x1_31 - 1) fun x6_43 =>
            m_isNextOrder_L100
              (fun (s58 : MS) =>
                some (1, s58))
              FU x5_42 x6_43 s41)
          FU x1_14 x2_15 x3_18 s16
      else
        some (0, s16))
    FU a1 x2_2 s0
theorem wm_isNextOrder_L4 {p : Program} {l : Launch} {e : Env} {s : State} {m : MethodId} {args : Array Value} {below : List Frame} {meth : Method} {c : Code} {D : MD} {o : Nat} {res : Int × MS} {k31 : Int → Int → MS → Option (Int × MS)} (hC : GC p s m args meth c cX8_isNextOrder RX8 7 (some .boolean) (MK D)) (hk31 : ∀ (x1_6 : Int) (x2_7 : Int) (s8 : MS), k31 x1_6 x2_7 s8 = some res → GW p l e (rmd 1) s m args below meth c 7 (mAd o) (MRp D o) (MK D) 1 res s8 31 [(0, .ref o), (1, J x1_6), (2, J x2_7)] []) : ∀ (n : Nat) (x1_3 : Int) (x2_4 : Int) (s5 : MS), m_isNextOrder_L4 k31 n x1_3 x2_4 s5 = some res → GW p l e (rmd 1) s m args below meth c 7 (mAd o) (MRp D o) (MK D) 1 res s5 4 [(0, .ref o), (1, J x1_3), (2, J x2_4)] [] := by
  intro n
  induction n with
  | zero =>
    intro x1_3 x2_4 s5 h
    cases h
  | succ n ih =>
    intro x1_3 x2_4 s5 h
    rw [m_isNextOrder_L4] at h
    refine gw_iload_n 4 2 hC dX8_isNextOrder_4 rfl ?_
    refine gw_if_lt 5 31 hC dX8_isNextOrder_5 (by decide) (fun c9 => ?_) (fun c9 => ?_)
    · replace h := if_t h c9
      refine gw_sub [0, 1, 2] rfl ?_
      exact hk31 _ _ _ h
    · replace h := if_f h c9
      refine gw_aload_n 8 0 hC dX8_isNextOrder_8 rfl ?_
      refine mg_57 9 hC dX8_isNextOrder_9 ?_
      refine gw_iload_n 12 2 hC dX8_isNextOrder_12 rfl ?_
      obtain ⟨g10, h⟩ := gd_e h
      refine m_iald 13 57 hC (by decide) rfl g10 dX8_isNextOrder_13 ?_
      refine gw_aload_n 14 0 hC dX8_isNextOrder_14 rfl ?_
      refine mg_57 15 hC dX8_isNextOrder_15 ?_
      refine gw_iload_n 18 2 hC dX8_isNextOrder_18 rfl ?_
      refine gw_iconst 19 hC dX8_isNextOrder_19 ?_
      refine gw_iadd 20 hC dX8_isNextOrder_20 ?_
      obtain ⟨g11, h⟩ := gd_e h
      refine m_iald 21 57 hC (by decide) rfl g11 dX8_isNextOrder_21 ?_
      refine gw_icmp_le 22 31 hC dX8_isNextOrder_22 (by decide) (fun c12 => ?_) (fun c12 => ?_)
      · replace h := if_t h c12
        refine gw_sub [0, 1, 2] rfl ?_
        exact hk31 _ _ _ h
      · replace h := if_f h c12
        obtain ⟨x2_13, ex2_13, h⟩ := bnd_e h
        refine gw_iinc 25 2 [(2, J x2_13), (0, .ref o), (1, J x1_3)] hC dX8_isNextOrder_25 rfl ex2_13 (by decide) rfl ?_
        refine gw_goto 28 4 hC dX8_isNextOrder_28 (by decide) ?_
        refine gw_sub [1, 2, 0] rfl ?_
        exact ih _ _ _ h
theorem wm_isNextOrder_L41 {p : Program} {l : Launch} {e : Env} {s : State} {m : MethodId} {args : Array Value} {below : List Frame} {meth : Method} {c : Code} {D : MD} {o : Nat} {res : Int × MS} {k62 : Int → Int → Int → MS → Option (Int × MS)} (hC : GC p s m args meth c cX8_isNextOrder RX8 7 (some .boolean) (MK D)) (hk62 : ∀ (x1_23 : Int) (x2_24 : Int) (x3_25 : Int) (s26 : MS), k62 x1_23 x2_24 x3_25 s26 = some res → GW p l e (rmd 1) s m args below meth c 7 (mAd o) (MRp D o) (MK D) 1 res s26 62 [(0, .ref o), (1, J x1_23), (2, J x2_24), (3, J x3_25)] []) : ∀ (n : Nat) (x1_19 : Int) (x2_20 : Int) (x3_21 : Int) (s22 : MS), m_isNextOrder_L41 k62 n x1_19 x2_20 x3_21 s22 = some res → GW p l e (rmd 1) s m args below meth c 7 (mAd o) (MRp D o) (MK D) 1 res s22 41 [(0, .ref o), (1, J x1_19), (2, J x2_20), (3, J x3_21)] [] := by
  intro n
  induction n with
  | zero =>
    intro x1_19 x2_20 x3_21 s22 h
    cases h
  | succ n ih =>
    intro x1_19 x2_20 x3_21 s22 h
    rw [m_isNextOrder_L41] at h
    refine gw_aload_n 41 0 hC dX8_isNextOrder_41 rfl ?_
    refine mg_57 42 hC dX8_isNextOrder_42 ?_
    refine gw_iload_n 45 3 hC dX8_isNextOrder_45 rfl ?_
    obtain ⟨g27, h⟩ := gd_e h
    refine m_iald 46 57 hC (by decide) rfl g27 dX8_isNextOrder_46 ?_
    refine gw_aload_n 47 0 hC dX8_isNextOrder_47 rfl ?_
    refine mg_57 48 hC dX8_isNextOrder_48 ?_
    refine gw_iload_n 51 2 hC dX8_isNextOrder_51 rfl ?_
    obtain ⟨g28, h⟩ := gd_e h
    refine m_iald 52 57 hC (by decide) rfl g28 dX8_isNextOrder_52 ?_
    refine gw_icmp_ge 53 62 hC dX8_isNextOrder_53 (by decide) (fun c29 => ?_) (fun c29 => ?_)
    · replace h := if_t h c29
      refine gw_sub [0, 1, 2, 3] rfl ?_
      exact hk62 _ _ _ _ h
    · replace h := if_f h c29
      obtain ⟨x3_30, ex3_30, h⟩ := bnd_e h
      refine gw_iinc 56 3 [(3, J x3_30), (0, .ref o), (1, J x1_19), (2, J x2_20)] hC dX8_isNextOrder_56 rfl ex3_30 (by decide) rfl ?_
      refine gw_goto 59 41 hC dX8_isNextOrder_59 (by decide) ?_
      refine gw_sub [1, 2, 3, 0] rfl ?_
      exact ih _ _ _ _ h
theorem wm_isNextOrder_L100 {p : Program} {l : Launch} {e : Env} {s : State} {m : MethodId} {args : Array Value} {below : List Frame} {meth : Method} {c : Code} {D : MD} {o : Nat} {res : Int × MS} {k148 : MS → Option (Int × MS)} (hC : GC p s m args meth c cX8_isNextOrder RX8 7 (some .boolean) (MK D)) (hk148 : ∀ (s47 : MS), k148 s47 = some res → GW p l e (rmd 1) s m args below meth c 7 (mAd o) (MRp D o) (MK D) 1 res s47 148 [] []) : ∀ (n : Nat) (x5_44 : Int) (x6_45 : Int) (s46 : MS), m_isNextOrder_L100 k148 n x5_44 x6_45 s46 = some res → GW p l e (rmd 1) s m args below meth c 7 (mAd o) (MRp D o) (MK D) 1 res s46 100 [(0, .ref o), (5, J x5_44), (6, J x6_45)] [] := by
  intro n
  induction n with
  | zero =>
    intro x5_44 x6_45 s46 h
    cases h
  | succ n ih =>
    intro x5_44 x6_45 s46 h
    rw [m_isNextOrder_L100] at h
    refine gw_iload 100 1 hC dX8_isNextOrder_100 rfl ?_
    refine gw_iload 102 2 hC dX8_isNextOrder_102 rfl ?_
    refine gw_icmp_ge 104 148 hC dX8_isNextOrder_104 (by decide) (fun c48 => ?_) (fun c48 => ?_)
    · replace h := if_t h c48
      refine gw_sub [] rfl ?_
      exact hk148 _ h
    · replace h := if_f h c48
      refine gw_aload_n 107 0 hC dX8_isNextOrder_107 rfl ?_
      refine mg_57 108 hC dX8_isNextOrder_108 ?_
      refine gw_iload 111 1 hC dX8_isNextOrder_111 rfl ?_
      obtain ⟨g49, h⟩ := gd_e h
      refine m_iald 113 57 hC (by decide) rfl g49 dX8_isNextOrder_113 ?_
      obtain ⟨x4_50, ex4_50, h⟩ := bnd_e h
      refine gw_istore 114 [(4, J x4_50), (0, .ref o), (5, J x5_44), (6, J x6_45)] hC dX8_isNextOrder_114 (by decide) ex4_50 rfl ?_
      refine gw_aload_n 116 1 hC dX8_isNextOrder_116 rfl ?_
      refine mg_57 117 hC dX8_isNextOrder_117 ?_
      refine gw_iload 120 2 hC dX8_isNextOrder_120 rfl ?_
      refine gw_aload_n 122 1 hC dX8_isNextOrder_122 rfl ?_
      refine mg_57 123 hC dX8_isNextOrder_123 ?_
      refine gw_iload 126 3 hC dX8_isNextOrder_126 rfl ?_
      obtain ⟨g51, h⟩ := gd_e h
      refine m_iald 128 57 hC (by decide) rfl g51 dX8_isNextOrder_128 ?_
      obtain ⟨g52, h⟩ := gd_e h
      obtain ⟨s53, es53, h⟩ := bnd_e h
      refine m_iast 129 57 hC (MIn_self o) (by decide) rfl g52 es53 dX8_isNextOrder_129 ?_
      refine gw_aload_n 130 1 hC dX8_isNextOrder_130 rfl ?_
      refine mg_57 131 hC dX8_isNextOrder_131 ?_
      refine gw_iload 134 3 hC dX8_isNextOrder_134 rfl ?_
      refine gw_iload 136 0 hC dX8_isNextOrder_136 rfl ?_
      obtain ⟨g54, h⟩ := gd_e h
      obtain ⟨s55, es55, h⟩ := bnd_e h
      refine m_iast 138 57 hC (MIn_self o) (by decide) rfl g54 es55 dX8_isNextOrder_138 ?_
      obtain ⟨x5_56, ex5_56, h⟩ := bnd_e h
      refine gw_iinc 139 2 [(5, J x5_56), (4, J x4_50), (0, .ref o), (6, J x6_45)] hC dX8_isNextOrder_139 rfl ex5_56 (by decide) rfl ?_
      obtain ⟨x6_57, ex6_57, h⟩ := bnd_e h
      refine gw_iinc 142 3 [(6, J x6_57), (5, J x5_56), (4, J x4_50), (0, .ref o)] hC dX8_isNextOrder_142 rfl ex6_57 (by decide) rfl ?_
      refine gw_goto 145 100 hC dX8_isNextOrder_145 (by decide) ?_
      refine gw_sub [3, 1, 0] rfl ?_
      exact ih _ _ _ h
theorem met_isNextOrder {D : MD} {o : Nat} {a1 : Int} {s0 : MS} {res : Int × MS} (h : m_isNextOrder a1 s0 = some res) (l : Launch) : GMet l yX8_isNextOrder cX8_isNextOrder 7 (some .boolean) 1 (MRp D o) (MK D) (mAd o) [.ref o, J a1] s0 1 res := by
  refine GMet.of [(0, .ref o), (1, J a1)] (by decide) (MK_moved D) (Nat.le_of_ble_eq_true rfl) rfl ?_
  intro p e s m args below meth c hC
  have hC : GC p s m args meth c cX8_isNextOrder RX8 7 (some .boolean) (MK D) := hC
  unfold m_isNextOrder at h
  refine gw_iload_n 0 1 hC dX8_isNextOrder_0 rfl ?_
  refine gw_iconst 1 hC dX8_isNextOrder_1 ?_
  refine gw_isub 2 hC dX8_isNextOrder_2 ?_
  obtain ⟨x2_2, ex2_2, h⟩ := bnd_e h
  refine gw_istore_n 3 [(2, J x2_2), (0, .ref o), (1, J a1)] hC dX8_isNextOrder_3 (by decide) ex2_2 rfl ?_
  refine gw_sub [1, 2, 0] rfl ?_
  refine wm_isNextOrder_L4 hC (fun x1_14 x2_15 s16 h => ?_) FU _ _ _ h
  · refine gw_iload_n 31 2 hC dX8_isNextOrder_31 rfl ?_
    refine gw_if_ge 32 37 hC dX8_isNextOrder_32 (by decide) (fun c17 => ?_) (fun c17 => ?_)
    · replace h := if_t h c17
      refine gw_iload_n 37 1 hC dX8_isNextOrder_37 rfl ?_
      refine gw_iconst 38 hC dX8_isNextOrder_38 ?_
      refine gw_isub 39 hC dX8_isNextOrder_39 ?_
      obtain ⟨x3_18, ex3_18, h⟩ := bnd_e h
      refine gw_istore_n 40 [(3, J x3_18), (0, .ref o), (1, J x1_14), (2, J x2_15)] hC dX8_isNextOrder_40 (by decide) ex3_18 rfl ?_
      refine gw_sub [1, 2, 3, 0] rfl ?_
      refine wm_isNextOrder_L41 hC (fun x1_31 x2_32 x3_33 s34 h => ?_) FU _ _ _ _ h
      · refine gw_aload_n 62 0 hC dX8_isNextOrder_62 rfl ?_
        refine mg_57 63 hC dX8_isNextOrder_63 ?_
        refine gw_iload_n 66 2 hC dX8_isNextOrder_66 rfl ?_
        obtain ⟨g35, h⟩ := gd_e h
        refine m_iald 67 57 hC (by decide) rfl g35 dX8_isNextOrder_67 ?_
        obtain ⟨x4_36, ex4_36, h⟩ := bnd_e h
        refine gw_istore 68 [(4, J x4_36), (0, .ref o), (1, J x1_31), (2, J x2_32), (3, J x3_33)] hC dX8_isNextOrder_68 (by decide) ex4_36 rfl ?_
        refine gw_aload_n 70 1 hC dX8_isNextOrder_70 rfl ?_
        refine mg_57 71 hC dX8_isNextOrder_71 ?_
        refine gw_iload_n 74 3 hC dX8_isNextOrder_74 rfl ?_
        refine gw_aload_n 75 1 hC dX8_isNextOrder_75 rfl ?_
        refine mg_57 76 hC dX8_isNextOrder_76 ?_
        refine gw_iload_n 79 4 hC dX8_isNextOrder_79 rfl ?_
        obtain ⟨g37, h⟩ := gd_e h
        refine m_iald 80 57 hC (by decide) rfl g37 dX8_isNextOrder_80 ?_
        obtain ⟨g38, h⟩ := gd_e h
        obtain ⟨s39, es39, h⟩ := bnd_e h
        refine m_iast 81 57 hC (MIn_self o) (by decide) rfl g38 es39 dX8_isNextOrder_81 ?_
        refine gw_aload_n 82 1 hC dX8_isNextOrder_82 rfl ?_
        refine mg_57 83 hC dX8_isNextOrder_83 ?_
        refine gw_iload_n 86 4 hC dX8_isNextOrder_86 rfl ?_
        refine gw_iload 87 0 hC dX8_isNextOrder_87 rfl ?_
        obtain ⟨g40, h⟩ := gd_e h
        obtain ⟨s41, es41, h⟩ := bnd_e h
        refine m_iast 89 57 hC (MIn_self o) (by decide) rfl g40 es41 dX8_isNextOrder_89 ?_
        refine gw_iload_n 90 3 hC dX8_isNextOrder_90 rfl ?_
        refine gw_iconst 91 hC dX8_isNextOrder_91 ?_
        refine gw_iadd 92 hC dX8_isNextOrder_92 ?_
        obtain ⟨x5_42, ex5_42, h⟩ := bnd_e h
        refine gw_istore 93 [(5, J x5_42), (4, J x4_36), (0, .ref o), (1, J x1_31), (2, J x2_32), (3, J x3_33)] hC dX8_isNextOrder_93 (by decide) ex5_42 rfl ?_
        refine gw_iload_n 95 3 hC dX8_isNextOrder_95 rfl ?_
        refine gw_iconst 96 hC dX8_isNextOrder_96 ?_
        refine gw_isub 97 hC dX8_isNextOrder_97 ?_
        obtain ⟨x6_43, ex6_43, h⟩ := bnd_e h
        refine gw_istore 98 [(6, J x6_43), (5, J x5_42), (4, J x4_36), (0, .ref o), (1, J x1_31), (2, J x2_32), (3, J x3_33)] hC dX8_isNextOrder_98 (by decide) ex6_43 rfl ?_
        refine gw_sub [3, 1, 0] rfl ?_
        refine wm_isNextOrder_L100 hC (fun s58 h => ?_) FU _ _ _ h
        · refine gw_iconst 148 hC dX8_isNextOrder_148 ?_
          exact gw_zret 149 hC dX8_isNextOrder_149 (by decide) h
    · replace h := if_f h c17
      refine gw_iconst 35 hC dX8_isNextOrder_35 ?_
      exact gw_zret 36 hC dX8_isNextOrder_36 (by decide) h
/-! laysRound()V -/
noncomputable def m_laysRound_L2 (k23 : MS → Option (Int × MS)) : Nat → Int → MS → Option (Int × MS)
  | 0, _, _ => none
  | n + 1, x1_2, s3 =>
    Option.bind (m_sayingMany s3) fun z5 =>
    if i32 z5.1 ≤ i32 x1_2 then
      k23 z5.2
    else
      gd (ok 6 x1_2) <|
      bnd (up z5.2 57 (i32 x1_2) x1_2) fun s8 =>
      bnd (x1_2 + 1) fun x1_9 =>
      m_laysRound_L2 k23 n x1_9 s8
noncomputable def m_laysRound_L62 (k88 : MS → Option (Int × MS)) : Nat → Int → MS → Option (Int × MS)
  | 0, _, _ => none
  | n + 1, x3_28, s29 =>
    Option.bind (m_sayingMany s29) fun z31 =>
    if i32 z31.1 ≤ i32 x3_28 then
      k88 z31.2
    else
      gd (ok 6 x3_28) <|
      gd (ok 6 x3_28) <|
      bnd (up z31.2 58 (i32 x3_28) (z31.2 57 (i32 x3_28))) fun s35 =>
      bnd (x3_28 + 1) fun x3_36 =>
      m_laysRound_L62 k88 n x3_36 s35
noncomputable def m_laysRound_L30 (k100 : MS → Option (Int × MS)) : Nat → Int → MS → Option (Int × MS)
  | 0, _, _ => none
  | n + 1, x1_13, s14 =>
    if i32 x1_13 = 0 then
      k100 s14
    else
      Option.bind (m_orderLong s14) fun z17 =>
      bnd z17.1 fun x2_18 =>
      bnd (fun (s19 : MS) =>
          Option.bind (m_sayingMany s19) fun z20 =>
          Option.bind (m_isNextOrder z20.1 z20.2) fun z21 =>
          bnd z21.1 fun x1_22 =>
          m_laysRound_L30 k100 n x1_22 z21.2) fun j23 =>
      bnd (fun (x2_24 : Int) (s25 : MS) =>
          bnd (up s25 59 0 x2_24) fun s26 =>
          bnd 0 fun x3_27 =>
          m_laysRound_L62
            (fun (s37 : MS) =>
              j23 s37)
            FU x3_27 s26) fun j38 =>
      if i32 (z17.2 59 0) = i32 (-1) then
        j38 x2_18 z17.2
      else
        if i32 (z17.2 59 0) ≤ i32 x2_18 then
          j23 z17.2
        else
          j38 x2_18 z17.2
noncomputable def m_laysRound (s0 : MS) : Option (Int × MS) :=
  bnd 0 fun x1_1 =>
  m_laysRound_L2
    (fun (s10 : MS) =>
      bnd (up s10 59 0 (-1)) fun s11 =>
      bnd 1 fun x1_12 =>
      m_laysRound_L30
        (fun (s41 : MS) =>
          some (0, s41))
        FU x1_12 s11)
    FU x1_1 s0
theorem wm_laysRound_L2 {p : Program} {l : Launch} {e : Env} {s : State} {m : MethodId} {args : Array Value} {below : List Frame} {meth : Method} {c : Code} {D : MD} {o : Nat} {res : Int × MS} {k23 : MS → Option (Int × MS)} (hC : GC p s m args meth c cX8_laysRound RX8 4 none (MK D)) (hk23 : ∀ (s4 : MS), k23 s4 = some res → GW p l e (rmd 4) s m args below meth c 4 (mAd o) (MRp D o) (MK D) 0 res s4 23 [(0, .ref o)] []) : ∀ (n : Nat) (x1_2 : Int) (s3 : MS), m_laysRound_L2 k23 n x1_2 s3 = some res → GW p l e (rmd 4) s m args below meth c 4 (mAd o) (MRp D o) (MK D) 0 res s3 2 [(0, .ref o), (1, J x1_2)] [] := by
  intro n
  induction n with
  | zero =>
    intro x1_2 s3 h
    cases h
  | succ n ih =>
    intro x1_2 s3 h
    rw [m_laysRound_L2] at h
    refine gw_iload_n 2 1 hC dX8_laysRound_2 rfl ?_
    refine gw_aload_n 3 0 hC dX8_laysRound_3 rfl ?_
    obtain ⟨z5, ez5, h⟩ := opt_e h
    refine gw_callV (As := []) (rest := [J x1_2]) (st' := [J z5.1, J x1_2]) 4 0 hC (met_sayingMany ez5 l) (lw_V q2278 q2280 qs96 q161 q2281) (by decide +kernel) (by decide) (m_recv hC) rfl rfl (Nat.le_of_ble_eq_true rfl) dX8_laysRound_4 rfl ?_
    refine gw_icmp_ge 7 23 hC dX8_laysRound_7 (by decide) (fun c6 => ?_) (fun c6 => ?_)
    · replace h := if_t h c6
      refine gw_sub [0] rfl ?_
      exact hk23 _ h
    · replace h := if_f h c6
      refine gw_aload_n 10 0 hC dX8_laysRound_10 rfl ?_
      refine mg_57 11 hC dX8_laysRound_11 ?_
      refine gw_iload_n 14 1 hC dX8_laysRound_14 rfl ?_
      refine gw_iload_n 15 1 hC dX8_laysRound_15 rfl ?_
      obtain ⟨g7, h⟩ := gd_e h
      obtain ⟨s8, es8, h⟩ := bnd_e h
      refine m_iast 16 57 hC (MIn_self o) (by decide) rfl g7 es8 dX8_laysRound_16 ?_
      obtain ⟨x1_9, ex1_9, h⟩ := bnd_e h
      refine gw_iinc 17 1 [(1, J x1_9), (0, .ref o)] hC dX8_laysRound_17 rfl ex1_9 (by decide) rfl ?_
      refine gw_goto 20 2 hC dX8_laysRound_20 (by decide) ?_
      refine gw_sub [1, 0] rfl ?_
      exact ih _ _ h
theorem wm_laysRound_L62 {p : Program} {l : Launch} {e : Env} {s : State} {m : MethodId} {args : Array Value} {below : List Frame} {meth : Method} {c : Code} {D : MD} {o : Nat} {res : Int × MS} {k88 : MS → Option (Int × MS)} (hC : GC p s m args meth c cX8_laysRound RX8 4 none (MK D)) (hk88 : ∀ (s30 : MS), k88 s30 = some res → GW p l e (rmd 4) s m args below meth c 4 (mAd o) (MRp D o) (MK D) 0 res s30 88 [(0, .ref o)] []) : ∀ (n : Nat) (x3_28 : Int) (s29 : MS), m_laysRound_L62 k88 n x3_28 s29 = some res → GW p l e (rmd 4) s m args below meth c 4 (mAd o) (MRp D o) (MK D) 0 res s29 62 [(0, .ref o), (3, J x3_28)] [] := by
  intro n
  induction n with
  | zero =>
    intro x3_28 s29 h
    cases h
  | succ n ih =>
    intro x3_28 s29 h
    rw [m_laysRound_L62] at h
    refine gw_iload_n 62 1 hC dX8_laysRound_62 rfl ?_
    refine gw_aload_n 63 0 hC dX8_laysRound_63 rfl ?_
    obtain ⟨z31, ez31, h⟩ := opt_e h
    refine gw_callV (As := []) (rest := [J x3_28]) (st' := [J z31.1, J x3_28]) 64 0 hC (met_sayingMany ez31 l) (lw_V q2278 q2280 qs96 q161 q2281) (by decide +kernel) (by decide) (m_recv hC) rfl rfl (Nat.le_of_ble_eq_true rfl) dX8_laysRound_64 rfl ?_
    refine gw_icmp_ge 67 88 hC dX8_laysRound_67 (by decide) (fun c32 => ?_) (fun c32 => ?_)
    · replace h := if_t h c32
      refine gw_sub [0] rfl ?_
      exact hk88 _ h
    · replace h := if_f h c32
      refine gw_aload_n 70 0 hC dX8_laysRound_70 rfl ?_
      refine mg_58 71 hC dX8_laysRound_71 ?_
      refine gw_iload_n 74 1 hC dX8_laysRound_74 rfl ?_
      refine gw_aload_n 75 0 hC dX8_laysRound_75 rfl ?_
      refine mg_57 76 hC dX8_laysRound_76 ?_
      refine gw_iload_n 79 1 hC dX8_laysRound_79 rfl ?_
      obtain ⟨g33, h⟩ := gd_e h
      refine m_iald 80 57 hC (by decide) rfl g33 dX8_laysRound_80 ?_
      obtain ⟨g34, h⟩ := gd_e h
      obtain ⟨s35, es35, h⟩ := bnd_e h
      refine m_iast 81 58 hC (MIn_self o) (by decide) rfl g34 es35 dX8_laysRound_81 ?_
      obtain ⟨x3_36, ex3_36, h⟩ := bnd_e h
      refine gw_iinc 82 1 [(3, J x3_36), (0, .ref o)] hC dX8_laysRound_82 rfl ex3_36 (by decide) rfl ?_
      refine gw_goto 85 62 hC dX8_laysRound_85 (by decide) ?_
      refine gw_sub [1, 0] rfl ?_
      exact ih _ _ h
theorem wm_laysRound_L30 {p : Program} {l : Launch} {e : Env} {s : State} {m : MethodId} {args : Array Value} {below : List Frame} {meth : Method} {c : Code} {D : MD} {o : Nat} {res : Int × MS} {k100 : MS → Option (Int × MS)} (hC : GC p s m args meth c cX8_laysRound RX8 4 none (MK D)) (hk100 : ∀ (s15 : MS), k100 s15 = some res → GW p l e (rmd 4) s m args below meth c 4 (mAd o) (MRp D o) (MK D) 0 res s15 100 [] []) : ∀ (n : Nat) (x1_13 : Int) (s14 : MS), m_laysRound_L30 k100 n x1_13 s14 = some res → GW p l e (rmd 4) s m args below meth c 4 (mAd o) (MRp D o) (MK D) 0 res s14 30 [(0, .ref o), (1, J x1_13)] [] := by
  intro n
  induction n with
  | zero =>
    intro x1_13 s14 h
    cases h
  | succ n ih =>
    intro x1_13 s14 h
    rw [m_laysRound_L30] at h
    refine gw_iload_n 30 1 hC dX8_laysRound_30 rfl ?_
    refine gw_if_eq 31 100 hC dX8_laysRound_31 (by decide) (fun c16 => ?_) (fun c16 => ?_)
    · replace h := if_t h c16
      refine gw_sub [] rfl ?_
      exact hk100 _ h
    · replace h := if_f h c16
      refine gw_aload_n 34 0 hC dX8_laysRound_34 rfl ?_
      obtain ⟨z17, ez17, h⟩ := opt_e h
      refine gw_callV (As := []) (rest := []) (st' := [J z17.1]) 35 0 hC (met_orderLong ez17 l) (lw_V q2369 q2371 qs114 q161 q2372) (by decide +kernel) (by decide) (m_recv hC) rfl rfl (Nat.le_of_ble_eq_true rfl) dX8_laysRound_35 rfl ?_
      obtain ⟨x2_18, ex2_18, h⟩ := bnd_e h
      refine gw_istore_n 38 [(2, J x2_18), (0, .ref o), (1, J x1_13)] hC dX8_laysRound_38 (by decide) ex2_18 rfl ?_
      refine gw_aload_n 39 1 hC dX8_laysRound_39 rfl ?_
      refine mg_59 40 hC dX8_laysRound_40 ?_
      refine gw_iconst 43 hC dX8_laysRound_43 ?_
      obtain ⟨j23, ej23, h⟩ := bnd_e h
      have hj23 : ∀ (s19 : MS), j23 s19 = some res → GW p l e (rmd 4) s m args below meth c 4 (mAd o) (MRp D o) (MK D) 0 res s19 88 [(0, .ref o)] [] := by
        clear h
        intro s19 h
        subst ej23
        refine gw_aload_n 88 0 hC dX8_laysRound_88 rfl ?_
        refine gw_aload_n 89 0 hC dX8_laysRound_89 rfl ?_
        obtain ⟨z20, ez20, h⟩ := opt_e h
        refine gw_callV (As := []) (rest := [.ref o]) (st' := [J z20.1, .ref o]) 90 0 hC (met_sayingMany ez20 l) (lw_V q2278 q2280 qs96 q161 q2281) (by decide +kernel) (by decide) (m_recv hC) rfl rfl (Nat.le_of_ble_eq_true rfl) dX8_laysRound_90 rfl ?_
        obtain ⟨z21, ez21, h⟩ := opt_e h
        refine gw_callV (As := [J z20.1]) (rest := []) (st' := [J z21.1]) 93 1 hC (met_isNextOrder ez21 l) (lw_V q2377 q2379 qs116 q161 q2380) (by decide +kernel) (by decide) (m_recv hC) rfl rfl (Nat.le_of_ble_eq_true rfl) dX8_laysRound_93 rfl ?_
        obtain ⟨x1_22, ex1_22, h⟩ := bnd_e h
        refine gw_istore_n 96 [(1, J x1_22), (0, .ref o)] hC dX8_laysRound_96 (by decide) ex1_22 rfl ?_
        refine gw_goto 97 30 hC dX8_laysRound_97 (by decide) ?_
        refine gw_sub [1, 0] rfl ?_
        exact ih _ _ h
      obtain ⟨j38, ej38, h⟩ := bnd_e h
      have hj38 : ∀ (x2_24 : Int) (s25 : MS), j38 x2_24 s25 = some res → GW p l e (rmd 4) s m args below meth c 4 (mAd o) (MRp D o) (MK D) 0 res s25 55 [(0, .ref o), (2, J x2_24)] [] := by
        clear h
        intro x2_24 s25 h
        subst ej38
        refine gw_aload_n 55 0 hC dX8_laysRound_55 rfl ?_
        refine gw_iload_n 56 1 hC dX8_laysRound_56 rfl ?_
        obtain ⟨s26, es26, h⟩ := bnd_e h
        refine mp_59 57 hC (MIn_self o) es26 dX8_laysRound_57 ?_
        refine gw_iconst 60 hC dX8_laysRound_60 ?_
        obtain ⟨x3_27, ex3_27, h⟩ := bnd_e h
        refine gw_istore_n 61 [(3, J x3_27), (0, .ref o), (2, J x2_24)] hC dX8_laysRound_61 (by decide) ex3_27 rfl ?_
        refine gw_sub [1, 0] rfl ?_
        refine wm_laysRound_L62 hC (fun s37 h => ?_) FU _ _ h
        · refine gw_sub [0] rfl ?_
          exact hj23 _ h
      refine gw_icmp_eq 44 55 hC dX8_laysRound_44 (by decide) (fun c39 => ?_) (fun c39 => ?_)
      · replace h := if_t h c39
        refine gw_sub [1, 0] rfl ?_
        exact hj38 _ _ h
      · replace h := if_f h c39
        refine gw_iload_n 47 0 hC dX8_laysRound_47 rfl ?_
        refine gw_aload_n 48 1 hC dX8_laysRound_48 rfl ?_
        refine mg_59 49 hC dX8_laysRound_49 ?_
        refine gw_icmp_ge 52 88 hC dX8_laysRound_52 (by decide) (fun c40 => ?_) (fun c40 => ?_)
        · replace h := if_t h c40
          refine gw_sub [1] rfl ?_
          exact hj23 _ h
        · replace h := if_f h c40
          refine gw_sub [1, 0] rfl ?_
          exact hj38 _ _ h
theorem met_laysRound {D : MD} {o : Nat} {s0 : MS} {res : Int × MS} (h : m_laysRound s0 = some res) (l : Launch) : GMet l yX8_laysRound cX8_laysRound 4 none 4 (MRp D o) (MK D) (mAd o) [.ref o] s0 0 res := by
  refine GMet.of [(0, .ref o)] (by decide) (MK_moved D) (Nat.le_of_ble_eq_true rfl) rfl ?_
  intro p e s m args below meth c hC
  have hC : GC p s m args meth c cX8_laysRound RX8 4 none (MK D) := hC
  unfold m_laysRound at h
  refine gw_iconst 0 hC dX8_laysRound_0 ?_
  obtain ⟨x1_1, ex1_1, h⟩ := bnd_e h
  refine gw_istore_n 1 [(1, J x1_1), (0, .ref o)] hC dX8_laysRound_1 (by decide) ex1_1 rfl ?_
  refine gw_sub [1, 0] rfl ?_
  refine wm_laysRound_L2 hC (fun s10 h => ?_) FU _ _ h
  · refine gw_aload_n 23 0 hC dX8_laysRound_23 rfl ?_
    refine gw_iconst 24 hC dX8_laysRound_24 ?_
    obtain ⟨s11, es11, h⟩ := bnd_e h
    refine mp_59 25 hC (MIn_self o) es11 dX8_laysRound_25 ?_
    refine gw_iconst 28 hC dX8_laysRound_28 ?_
    obtain ⟨x1_12, ex1_12, h⟩ := bnd_e h
    refine gw_istore_n 29 [(1, J x1_12), (0, .ref o)] hC dX8_laysRound_29 (by decide) ex1_12 rfl ?_
    refine gw_sub [1, 0] rfl ?_
    refine wm_laysRound_L30 hC (fun s41 h => ?_) FU _ _ h
    · exact gw_vret 100 hC dX8_laysRound_100 h
/-! darkSet()I -/
noncomputable def m_darkSet_L12 (k80 : Int → MS → Option (Int × MS)) : Nat → Int → Int → Int → Int → Int → MS → Option (Int × MS)
  | 0, _, _, _, _, _, _ => none
  | n + 1, x1_6, x2_7, x3_8, x4_9, x5_10, s11 =>
    Option.bind (m_sayingMany s11) fun z14 =>
    if i32 z14.1 ≤ i32 x5_10 then
      k80 x1_6 z14.2
    else
      gd (ok 6 x5_10) <|
      bnd (z14.2 58 (i32 x5_10)) fun x6_17 =>
      Option.bind (m_stepsTo x3_8 x4_9 x6_17 z14.2) fun z18 =>
      bnd (x2_7 + z18.1) fun x2_19 =>
      Option.bind (m_columnOf x6_17 z18.2) fun z20 =>
      bnd z20.1 fun x3_21 =>
      Option.bind (m_rowOf x6_17 z20.2) fun z22 =>
      bnd z22.1 fun x4_23 =>
      gd (ok 4 2) <|
      bnd (fun (x1_25 : Int) (x2_26 : Int) (x3_27 : Int) (x4_28 : Int) (x5_29 : Int) (s30 : MS) =>
          bnd (x5_29 + 1) fun x5_31 =>
          m_darkSet_L12 k80 n x1_25 x2_26 x3_27 x4_28 x5_31 s30) fun j32 =>
      if i32 x2_19 ≤ i32 (z22.2 35 (i32 2)) then
        j32 x1_6 x2_19 x3_21 x4_23 x5_10 z22.2
      else
        bnd (ior x1_6 (ishl 1 x6_17)) fun x1_34 =>
        j32 x1_34 x2_19 x3_21 x4_23 x5_10 z22.2
noncomputable def m_darkSet (s0 : MS) : Option (Int × MS) :=
  bnd 0 fun x1_1 =>
  bnd 0 fun x2_2 =>
  bnd 0 fun x3_3 =>
  bnd 0 fun x4_4 =>
  bnd 0 fun x5_5 =>
  m_darkSet_L12
    (fun (x1_35 : Int) (s36 : MS) =>
      some (x1_35, s36))
    FU x1_1 x2_2 x3_3 x4_4 x5_5 s0
theorem wm_darkSet_L12 {p : Program} {l : Launch} {e : Env} {s : State} {m : MethodId} {args : Array Value} {below : List Frame} {meth : Method} {c : Code} {D : MD} {o : Nat} {res : Int × MS} {k80 : Int → MS → Option (Int × MS)} (hC : GC p s m args meth c cX8_darkSet RX8 7 (some .int) (MK D)) (hk80 : ∀ (x1_12 : Int) (s13 : MS), k80 x1_12 s13 = some res → GW p l e (rmd 3) s m args below meth c 7 (mAd o) (MRp D o) (MK D) 1 res s13 80 [(1, J x1_12)] []) : ∀ (n : Nat) (x1_6 : Int) (x2_7 : Int) (x3_8 : Int) (x4_9 : Int) (x5_10 : Int) (s11 : MS), m_darkSet_L12 k80 n x1_6 x2_7 x3_8 x4_9 x5_10 s11 = some res → GW p l e (rmd 3) s m args below meth c 7 (mAd o) (MRp D o) (MK D) 1 res s11 12 [(0, .ref o), (1, J x1_6), (2, J x2_7), (3, J x3_8), (4, J x4_9), (5, J x5_10)] [] := by
  intro n
  induction n with
  | zero =>
    intro x1_6 x2_7 x3_8 x4_9 x5_10 s11 h
    cases h
  | succ n ih =>
    intro x1_6 x2_7 x3_8 x4_9 x5_10 s11 h
    rw [m_darkSet_L12] at h
    refine gw_iload 12 5 hC dX8_darkSet_12 rfl ?_
    refine gw_aload_n 14 0 hC dX8_darkSet_14 rfl ?_
    obtain ⟨z14, ez14, h⟩ := opt_e h
    refine gw_callV (As := []) (rest := [J x5_10]) (st' := [J z14.1, J x5_10]) 15 0 hC (met_sayingMany ez14 l) (lw_V q2278 q2280 qs96 q161 q2281) (by decide +kernel) (by decide) (m_recv hC) rfl rfl (Nat.le_of_ble_eq_true rfl) dX8_darkSet_15 rfl ?_
    refine gw_icmp_ge 18 80 hC dX8_darkSet_18 (by decide) (fun c15 => ?_) (fun c15 => ?_)
    · replace h := if_t h c15
      refine gw_sub [1] rfl ?_
      exact hk80 _ _ h
    · replace h := if_f h c15
      refine gw_aload_n 21 0 hC dX8_darkSet_21 rfl ?_
      refine mg_58 22 hC dX8_darkSet_22 ?_
      refine gw_iload 25 5 hC dX8_darkSet_25 rfl ?_
      obtain ⟨g16, h⟩ := gd_e h
      refine m_iald 27 58 hC (by decide) rfl g16 dX8_darkSet_27 ?_
      obtain ⟨x6_17, ex6_17, h⟩ := bnd_e h
      refine gw_istore 28 [(6, J x6_17), (0, .ref o), (1, J x1_6), (2, J x2_7), (3, J x3_8), (4, J x4_9), (5, J x5_10)] hC dX8_darkSet_28 (by decide) ex6_17 rfl ?_
      refine gw_iload_n 30 3 hC dX8_darkSet_30 rfl ?_
      refine gw_aload_n 31 1 hC dX8_darkSet_31 rfl ?_
      refine gw_iload_n 32 4 hC dX8_darkSet_32 rfl ?_
      refine gw_iload 33 5 hC dX8_darkSet_33 rfl ?_
      refine gw_iload 35 0 hC dX8_darkSet_35 rfl ?_
      obtain ⟨z18, ez18, h⟩ := opt_e h
      refine gw_callV (As := [J x3_8, J x4_9, J x6_17]) (rest := [J x2_7]) (st' := [J z18.1, J x2_7]) 37 3 hC (met_stepsTo ez18 l) (lw_V q2373 q2375 qs115 q161 q2376) (by decide +kernel) (by decide) (m_recv hC) rfl rfl (Nat.le_of_ble_eq_true rfl) dX8_darkSet_37 rfl ?_
      refine gw_iadd 40 hC dX8_darkSet_40 ?_
      obtain ⟨x2_19, ex2_19, h⟩ := bnd_e h
      refine gw_istore_n 41 [(2, J x2_19), (6, J x6_17), (0, .ref o), (1, J x1_6), (3, J x3_8), (4, J x4_9), (5, J x5_10)] hC dX8_darkSet_41 (by decide) ex2_19 rfl ?_
      refine gw_aload_n 42 2 hC dX8_darkSet_42 rfl ?_
      refine gw_iload 43 1 hC dX8_darkSet_43 rfl ?_
      obtain ⟨z20, ez20, h⟩ := opt_e h
      refine gw_callV (As := [J x6_17]) (rest := []) (st' := [J z20.1]) 45 1 hC (met_columnOf ez20 l) (lw_V q2328 q2330 qs106 q161 q2331) (by decide +kernel) (by decide) (m_recv hC) rfl rfl (Nat.le_of_ble_eq_true rfl) dX8_darkSet_45 rfl ?_
      obtain ⟨x3_21, ex3_21, h⟩ := bnd_e h
      refine gw_istore_n 48 [(3, J x3_21), (2, J x2_19), (6, J x6_17), (0, .ref o), (1, J x1_6), (4, J x4_9), (5, J x5_10)] hC dX8_darkSet_48 (by decide) ex3_21 rfl ?_
      refine gw_aload_n 49 3 hC dX8_darkSet_49 rfl ?_
      refine gw_iload 50 2 hC dX8_darkSet_50 rfl ?_
      obtain ⟨z22, ez22, h⟩ := opt_e h
      refine gw_callV (As := [J x6_17]) (rest := []) (st' := [J z22.1]) 52 1 hC (met_rowOf ez22 l) (lw_V q2332 q2334 qs107 q161 q2335) (by decide +kernel) (by decide) (m_recv hC) rfl rfl (Nat.le_of_ble_eq_true rfl) dX8_darkSet_52 rfl ?_
      obtain ⟨x4_23, ex4_23, h⟩ := bnd_e h
      refine gw_istore 55 [(4, J x4_23), (3, J x3_21), (2, J x2_19), (6, J x6_17), (0, .ref o), (1, J x1_6), (5, J x5_10)] hC dX8_darkSet_55 (by decide) ex4_23 rfl ?_
      refine gw_iload_n 57 2 hC dX8_darkSet_57 rfl ?_
      refine gw_aload_n 58 4 hC dX8_darkSet_58 rfl ?_
      refine mg_35 59 hC dX8_darkSet_59 ?_
      refine gw_iconst 62 hC dX8_darkSet_62 ?_
      obtain ⟨g24, h⟩ := gd_e h
      refine m_iald 63 35 hC (by decide) rfl g24 dX8_darkSet_63 ?_
      obtain ⟨j32, ej32, h⟩ := bnd_e h
      have hj32 : ∀ (x1_25 : Int) (x2_26 : Int) (x3_27 : Int) (x4_28 : Int) (x5_29 : Int) (s30 : MS), j32 x1_25 x2_26 x3_27 x4_28 x5_29 s30 = some res → GW p l e (rmd 3) s m args below meth c 7 (mAd o) (MRp D o) (MK D) 1 res s30 74 [(0, .ref o), (1, J x1_25), (2, J x2_26), (3, J x3_27), (4, J x4_28), (5, J x5_29)] [] := by
        clear h
        intro x1_25 x2_26 x3_27 x4_28 x5_29 s30 h
        subst ej32
        obtain ⟨x5_31, ex5_31, h⟩ := bnd_e h
        refine gw_iinc 74 5 [(5, J x5_31), (0, .ref o), (1, J x1_25), (2, J x2_26), (3, J x3_27), (4, J x4_28)] hC dX8_darkSet_74 rfl ex5_31 (by decide) rfl ?_
        refine gw_goto 77 12 hC dX8_darkSet_77 (by decide) ?_
        refine gw_sub [1, 2, 3, 4, 5, 0] rfl ?_
        exact ih _ _ _ _ _ _ h
      refine gw_icmp_le 64 74 hC dX8_darkSet_64 (by decide) (fun c33 => ?_) (fun c33 => ?_)
      · replace h := if_t h c33
        refine gw_sub [4, 5, 2, 1, 0, 6] rfl ?_
        exact hj32 _ _ _ _ _ _ h
      · replace h := if_f h c33
        refine gw_iload_n 67 5 hC dX8_darkSet_67 rfl ?_
        refine gw_iconst 68 hC dX8_darkSet_68 ?_
        refine gw_iload 69 3 hC dX8_darkSet_69 rfl ?_
        refine gw_ishl 71 hC dX8_darkSet_71 ?_
        refine gw_ior 72 hC dX8_darkSet_72 ?_
        obtain ⟨x1_34, ex1_34, h⟩ := bnd_e h
        refine gw_istore_n 73 [(1, J x1_34), (4, J x4_23), (3, J x3_21), (2, J x2_19), (6, J x6_17), (0, .ref o), (5, J x5_10)] hC dX8_darkSet_73 (by decide) ex1_34 rfl ?_
        refine gw_sub [5, 0, 3, 2, 1, 6] rfl ?_
        exact hj32 _ _ _ _ _ _ h
theorem met_darkSet {D : MD} {o : Nat} {s0 : MS} {res : Int × MS} (h : m_darkSet s0 = some res) (l : Launch) : GMet l yX8_darkSet cX8_darkSet 7 (some .int) 3 (MRp D o) (MK D) (mAd o) [.ref o] s0 1 res := by
  refine GMet.of [(0, .ref o)] (by decide) (MK_moved D) (Nat.le_of_ble_eq_true rfl) rfl ?_
  intro p e s m args below meth c hC
  have hC : GC p s m args meth c cX8_darkSet RX8 7 (some .int) (MK D) := hC
  unfold m_darkSet at h
  refine gw_iconst 0 hC dX8_darkSet_0 ?_
  obtain ⟨x1_1, ex1_1, h⟩ := bnd_e h
  refine gw_istore_n 1 [(1, J x1_1), (0, .ref o)] hC dX8_darkSet_1 (by decide) ex1_1 rfl ?_
  refine gw_iconst 2 hC dX8_darkSet_2 ?_
  obtain ⟨x2_2, ex2_2, h⟩ := bnd_e h
  refine gw_istore_n 3 [(2, J x2_2), (1, J x1_1), (0, .ref o)] hC dX8_darkSet_3 (by decide) ex2_2 rfl ?_
  refine gw_iconst 4 hC dX8_darkSet_4 ?_
  obtain ⟨x3_3, ex3_3, h⟩ := bnd_e h
  refine gw_istore_n 5 [(3, J x3_3), (2, J x2_2), (1, J x1_1), (0, .ref o)] hC dX8_darkSet_5 (by decide) ex3_3 rfl ?_
  refine gw_iconst 6 hC dX8_darkSet_6 ?_
  obtain ⟨x4_4, ex4_4, h⟩ := bnd_e h
  refine gw_istore 7 [(4, J x4_4), (3, J x3_3), (2, J x2_2), (1, J x1_1), (0, .ref o)] hC dX8_darkSet_7 (by decide) ex4_4 rfl ?_
  refine gw_iconst 9 hC dX8_darkSet_9 ?_
  obtain ⟨x5_5, ex5_5, h⟩ := bnd_e h
  refine gw_istore 10 [(5, J x5_5), (4, J x4_4), (3, J x3_3), (2, J x2_2), (1, J x1_1), (0, .ref o)] hC dX8_darkSet_10 (by decide) ex5_5 rfl ?_
  refine gw_sub [5, 4, 3, 2, 1, 0] rfl ?_
  refine wm_darkSet_L12 hC (fun x1_35 s36 h => ?_) FU _ _ _ _ _ _ h
  · refine gw_iload_n 80 0 hC dX8_darkSet_80 rfl ?_
    exact gw_iret 81 hC dX8_darkSet_81 h
/-! saying(II)I -/
noncomputable def m_saying (a1 : Int) (a2 : Int) (s0 : MS) : Option (Int × MS) :=
  Option.bind (m_isSaying a1 s0) fun z3 =>
  if i32 z3.1 = 0 then
    some ((-1), z3.2)
  else
    Option.bind (m_isIn (i32 a2) 0 2 z3.2) fun z5 =>
    if i32 z5.1 = 0 then
      if i32 a2 = i32 3 then
        Option.bind (m_laysGiving z5.2) fun z11 =>
        if i32 (z11.2 55 0) = 0 then
          some ((-1), z11.2)
        else
          gd (ok 6 a1) <|
          some ((z11.2 54 (i32 a1)), z11.2)
      else
        if i32 a2 = i32 4 then
          Option.bind (m_laysRound z5.2) fun z9 =>
          Option.bind (m_darkSet z9.2) fun z10 =>
          some ((iand (ishr z10.1 a1) 1), z10.2)
        else
          some ((-1), z5.2)
    else
      gd (ok 219 ((8 + (10 * a1)) + a2)) <|
      some ((z5.2 48 (i32 ((8 + (10 * a1)) + a2))), z5.2)
theorem met_saying {D : MD} {o : Nat} {a1 : Int} {a2 : Int} {s0 : MS} {res : Int × MS} (h : m_saying a1 a2 s0 = some res) (l : Launch) : GMet l yX8_saying cX8_saying 3 (some .int) 7 (MRp D o) (MK D) (mAd o) [.ref o, J a1, J a2] s0 1 res := by
  refine GMet.of [(0, .ref o), (1, J a1), (2, J a2)] (by decide) (MK_moved D) (Nat.le_of_ble_eq_true rfl) rfl ?_
  intro p e s m args below meth c hC
  have hC : GC p s m args meth c cX8_saying RX8 3 (some .int) (MK D) := hC
  unfold m_saying at h
  refine gw_aload_n 0 0 hC dX8_saying_0 rfl ?_
  refine gw_iload_n 1 1 hC dX8_saying_1 rfl ?_
  obtain ⟨z3, ez3, h⟩ := opt_e h
  refine gw_callV (As := [J a1]) (rest := []) (st' := [J z3.1]) 2 1 hC (met_isSaying ez3 l) (lw_V q2295 q2297 qs98 q161 q2298) (by decide +kernel) (by decide) (m_recv hC) rfl rfl (Nat.le_of_ble_eq_true rfl) dX8_saying_2 rfl ?_
  refine gw_if_ne 5 10 hC dX8_saying_5 (by decide) (fun c4 => ?_) (fun c4 => ?_)
  · replace h := if_f h c4
    refine gw_iload_n 10 2 hC dX8_saying_10 rfl ?_
    refine gw_i2l 11 hC dX8_saying_11 ?_
    refine gw_lconst (v := 0) 12 hC dX8_saying_12 (by decide) ?_
    refine gw_ldc2 (v := 2) 13 hC dX8_saying_13 q2299 (by decide) ?_
    obtain ⟨z5, ez5, h⟩ := opt_e h
    refine gw_callS (As := [Lg (i32 a2), Lg 0, Lg 2]) (rest := []) (st' := [J z5.1]) 16 3 hC (met_isIn ez5 l) (lw_S q2123 q2124 q161 q2125) (by decide +kernel) (by decide) rfl rfl (Nat.le_of_ble_eq_true rfl) dX8_saying_16 rfl ?_
    refine gw_if_eq 19 37 hC dX8_saying_19 (by decide) (fun c6 => ?_) (fun c6 => ?_)
    · replace h := if_t h c6
      refine gw_iload_n 37 2 hC dX8_saying_37 rfl ?_
      refine gw_iconst 38 hC dX8_saying_38 ?_
      refine gw_icmp_ne 39 64 hC dX8_saying_39 (by decide) (fun c7 => ?_) (fun c7 => ?_)
      · replace h := if_f h c7
        refine gw_iload_n 64 2 hC dX8_saying_64 rfl ?_
        refine gw_iconst 65 hC dX8_saying_65 ?_
        refine gw_icmp_eq 66 71 hC dX8_saying_66 (by decide) (fun c8 => ?_) (fun c8 => ?_)
        · replace h := if_t h c8
          refine gw_aload_n 71 0 hC dX8_saying_71 rfl ?_
          obtain ⟨z9, ez9, h⟩ := opt_e h
          refine gw_callV (As := []) (rest := []) (st' := []) 72 0 hC (met_laysRound ez9 l) (lw_V q2365 q2367 qs113 q161 q2368) (by decide +kernel) (by decide) (m_recv hC) rfl rfl (Nat.le_of_ble_eq_true rfl) dX8_saying_72 rfl ?_
          refine gw_aload_n 75 0 hC dX8_saying_75 rfl ?_
          obtain ⟨z10, ez10, h⟩ := opt_e h
          refine gw_callV (As := []) (rest := []) (st' := [J z10.1]) 76 0 hC (met_darkSet ez10 l) (lw_V q2381 q2383 qs117 q161 q2384) (by decide +kernel) (by decide) (m_recv hC) rfl rfl (Nat.le_of_ble_eq_true rfl) dX8_saying_76 rfl ?_
          refine gw_iload_n 79 1 hC dX8_saying_79 rfl ?_
          refine gw_ishr 80 hC dX8_saying_80 ?_
          refine gw_iconst 81 hC dX8_saying_81 ?_
          refine gw_iand 82 hC dX8_saying_82 ?_
          exact gw_iret 83 hC dX8_saying_83 h
        · replace h := if_f h c8
          refine gw_iconst 69 hC dX8_saying_69 ?_
          exact gw_iret 70 hC dX8_saying_70 h
      · replace h := if_t h c7
        refine gw_aload_n 42 0 hC dX8_saying_42 rfl ?_
        obtain ⟨z11, ez11, h⟩ := opt_e h
        refine gw_callV (As := []) (rest := []) (st' := []) 43 0 hC (met_laysGiving ez11 l) (lw_V q2300 q2302 qs99 q161 q2303) (by decide +kernel) (by decide) (m_recv hC) rfl rfl (Nat.le_of_ble_eq_true rfl) dX8_saying_43 rfl ?_
        refine gw_aload_n 46 0 hC dX8_saying_46 rfl ?_
        refine mg_55 47 hC dX8_saying_47 ?_
        refine gw_if_eq 50 62 hC dX8_saying_50 (by decide) (fun c12 => ?_) (fun c12 => ?_)
        · replace h := if_t h c12
          refine gw_iconst 62 hC dX8_saying_62 ?_
          exact gw_iret 63 hC dX8_saying_63 h
        · replace h := if_f h c12
          refine gw_aload_n 53 0 hC dX8_saying_53 rfl ?_
          refine mg_54 54 hC dX8_saying_54 ?_
          refine gw_iload_n 57 1 hC dX8_saying_57 rfl ?_
          obtain ⟨g13, h⟩ := gd_e h
          refine m_iald 58 54 hC (by decide) rfl g13 dX8_saying_58 ?_
          refine gw_goto 59 63 hC dX8_saying_59 (by decide) ?_
          exact gw_iret 63 hC dX8_saying_63 h
    · replace h := if_f h c6
      refine gw_aload_n 22 0 hC dX8_saying_22 rfl ?_
      refine mg_48 23 hC dX8_saying_23 ?_
      refine gw_bipush 26 hC dX8_saying_26 (by decide) ?_
      refine gw_bipush 28 hC dX8_saying_28 (by decide) ?_
      refine gw_iload_n 30 1 hC dX8_saying_30 rfl ?_
      refine gw_imul 31 hC dX8_saying_31 ?_
      refine gw_iadd 32 hC dX8_saying_32 ?_
      refine gw_iload_n 33 2 hC dX8_saying_33 rfl ?_
      refine gw_iadd 34 hC dX8_saying_34 ?_
      obtain ⟨g14, h⟩ := gd_e h
      refine m_iald 35 48 hC (by decide) rfl g14 dX8_saying_35 ?_
      exact gw_iret 36 hC dX8_saying_36 h
  · replace h := if_t h c4
    refine gw_iconst 8 hC dX8_saying_8 ?_
    exact gw_iret 9 hC dX8_saying_9 h
/-! isVerb(J)Z -/
noncomputable def m_isVerb (a1 : Int) (s0 : MS) : Option (Int × MS) :=
  Option.bind (m_verbMany s0) fun z2 =>
  Option.bind (m_isIn a1 0 (i32 (z2.1 - 1)) z2.2) fun z3 =>
  gd (bz z3.1) <|
  some (z3.1, z3.2)
theorem met_isVerb {D : MD} {o : Nat} {a1 : Int} {s0 : MS} {res : Int × MS} (h : m_isVerb a1 s0 = some res) (l : Launch) : GMet l yX8_isVerb cX8_isVerb 3 (some .boolean) 2 (MRp D o) (MK D) (mAd o) [.ref o, Lg a1] s0 1 res := by
  refine GMet.of [(0, .ref o), (1, Lg a1)] (by decide) (MK_moved D) (Nat.le_of_ble_eq_true rfl) rfl ?_
  intro p e s m args below meth c hC
  have hC : GC p s m args meth c cX8_isVerb RX8 3 (some .boolean) (MK D) := hC
  unfold m_isVerb at h
  refine gw_lload_n 0 1 hC dX8_isVerb_0 rfl ?_
  refine gw_lconst (v := 0) 1 hC dX8_isVerb_1 (by decide) ?_
  refine gw_aload_n 2 0 hC dX8_isVerb_2 rfl ?_
  obtain ⟨z2, ez2, h⟩ := opt_e h
  refine gw_callV (As := []) (rest := [Lg 0, Lg a1]) (st' := [J z2.1, Lg 0, Lg a1]) 3 0 hC (met_verbMany ez2 l) (lw_V q2259 q2261 qs92 q161 q2262) (by decide +kernel) (by decide) (m_recv hC) rfl rfl (Nat.le_of_ble_eq_true rfl) dX8_isVerb_3 rfl ?_
  refine gw_iconst 6 hC dX8_isVerb_6 ?_
  refine gw_isub 7 hC dX8_isVerb_7 ?_
  refine gw_i2l 8 hC dX8_isVerb_8 ?_
  obtain ⟨z3, ez3, h⟩ := opt_e h
  refine gw_callS (As := [Lg a1, Lg 0, Lg (i32 (z2.1 - 1))]) (rest := []) (st' := [J z3.1]) 9 3 hC (met_isIn ez3 l) (lw_S q2123 q2124 q161 q2125) (by decide +kernel) (by decide) rfl rfl (Nat.le_of_ble_eq_true rfl) dX8_isVerb_9 rfl ?_
  obtain ⟨g4, h⟩ := gd_e h
  exact gw_zret 12 hC dX8_isVerb_12 g4 h
/-! verb(II)I -/
noncomputable def m_verb (a1 : Int) (a2 : Int) (s0 : MS) : Option (Int × MS) :=
  Option.bind (m_isVerb (i32 a1) s0) fun z3 =>
  if i32 z3.1 = 0 then
    some ((-1), z3.2)
  else
    bnd (fun (x1_5 : Int) (x2_6 : Int) (s7 : MS) =>
        gd (ok 28 ((14 + (2 * x1_5)) + x2_6)) <|
        some ((s7 39 (i32 ((14 + (2 * x1_5)) + x2_6))), s7)) fun j9 =>
    if i32 a2 = 0 then
      j9 a1 a2 z3.2
    else
      if i32 a2 = i32 1 then
        j9 a1 a2 z3.2
      else
        if i32 a2 = i32 2 then
          gd (ok 219 (1 + a1)) <|
          some ((z3.2 48 (i32 (1 + a1))), z3.2)
        else
          some ((-1), z3.2)
theorem met_verb {D : MD} {o : Nat} {a1 : Int} {a2 : Int} {s0 : MS} {res : Int × MS} (h : m_verb a1 a2 s0 = some res) (l : Launch) : GMet l yX8_verb cX8_verb 3 (some .int) 3 (MRp D o) (MK D) (mAd o) [.ref o, J a1, J a2] s0 1 res := by
  refine GMet.of [(0, .ref o), (1, J a1), (2, J a2)] (by decide) (MK_moved D) (Nat.le_of_ble_eq_true rfl) rfl ?_
  intro p e s m args below meth c hC
  have hC : GC p s m args meth c cX8_verb RX8 3 (some .int) (MK D) := hC
  unfold m_verb at h
  refine gw_aload_n 0 0 hC dX8_verb_0 rfl ?_
  refine gw_iload_n 1 1 hC dX8_verb_1 rfl ?_
  refine gw_i2l 2 hC dX8_verb_2 ?_
  obtain ⟨z3, ez3, h⟩ := opt_e h
  refine gw_callV (As := [Lg (i32 a1)]) (rest := []) (st' := [J z3.1]) 3 1 hC (met_isVerb ez3 l) (lw_V q2389 q2391 qs118 q161 q2392) (by decide +kernel) (by decide) (m_recv hC) rfl rfl (Nat.le_of_ble_eq_true rfl) dX8_verb_3 rfl ?_
  refine gw_if_ne 6 11 hC dX8_verb_6 (by decide) (fun c4 => ?_) (fun c4 => ?_)
  · replace h := if_f h c4
    refine gw_iload_n 11 2 hC dX8_verb_11 rfl ?_
    obtain ⟨j9, ej9, h⟩ := bnd_e h
    have hj9 : ∀ (x1_5 : Int) (x2_6 : Int) (s7 : MS), j9 x1_5 x2_6 s7 = some res → GW p l e (rmd 3) s m args below meth c 3 (mAd o) (MRp D o) (MK D) 1 res s7 20 [(0, .ref o), (1, J x1_5), (2, J x2_6)] [] := by
      clear h
      intro x1_5 x2_6 s7 h
      subst ej9
      refine gw_aload_n 20 0 hC dX8_verb_20 rfl ?_
      refine mg_39 21 hC dX8_verb_21 ?_
      refine gw_bipush 24 hC dX8_verb_24 (by decide) ?_
      refine gw_iconst 26 hC dX8_verb_26 ?_
      refine gw_iload_n 27 1 hC dX8_verb_27 rfl ?_
      refine gw_imul 28 hC dX8_verb_28 ?_
      refine gw_iadd 29 hC dX8_verb_29 ?_
      refine gw_iload_n 30 2 hC dX8_verb_30 rfl ?_
      refine gw_iadd 31 hC dX8_verb_31 ?_
      obtain ⟨g8, h⟩ := gd_e h
      refine m_iald 32 39 hC (by decide) rfl g8 dX8_verb_32 ?_
      refine gw_goto 33 53 hC dX8_verb_33 (by decide) ?_
      exact gw_iret 53 hC dX8_verb_53 h
    refine gw_if_eq 12 20 hC dX8_verb_12 (by decide) (fun c10 => ?_) (fun c10 => ?_)
    · replace h := if_t h c10
      refine gw_sub [0, 1, 2] rfl ?_
      exact hj9 _ _ _ h
    · replace h := if_f h c10
      refine gw_iload_n 15 2 hC dX8_verb_15 rfl ?_
      refine gw_iconst 16 hC dX8_verb_16 ?_
      refine gw_icmp_ne 17 36 hC dX8_verb_17 (by decide) (fun c11 => ?_) (fun c11 => ?_)
      · replace h := if_f h c11
        refine gw_iload_n 36 2 hC dX8_verb_36 rfl ?_
        refine gw_iconst 37 hC dX8_verb_37 ?_
        refine gw_icmp_ne 38 52 hC dX8_verb_38 (by decide) (fun c12 => ?_) (fun c12 => ?_)
        · replace h := if_f h c12
          refine gw_iconst 52 hC dX8_verb_52 ?_
          exact gw_iret 53 hC dX8_verb_53 h
        · replace h := if_t h c12
          refine gw_aload_n 41 0 hC dX8_verb_41 rfl ?_
          refine mg_48 42 hC dX8_verb_42 ?_
          refine gw_iconst 45 hC dX8_verb_45 ?_
          refine gw_iload_n 46 1 hC dX8_verb_46 rfl ?_
          refine gw_iadd 47 hC dX8_verb_47 ?_
          obtain ⟨g13, h⟩ := gd_e h
          refine m_iald 48 48 hC (by decide) rfl g13 dX8_verb_48 ?_
          refine gw_goto 49 53 hC dX8_verb_49 (by decide) ?_
          exact gw_iret 53 hC dX8_verb_53 h
      · replace h := if_t h c11
        refine gw_sub [0, 1, 2] rfl ?_
        exact hj9 _ _ _ h
  · replace h := if_t h c4
    refine gw_iconst 9 hC dX8_verb_9 ?_
    exact gw_iret 10 hC dX8_verb_10 h
/-! pair(III)I -/
noncomputable def m_pair (a1 : Int) (a2 : Int) (a3 : Int) (s0 : MS) : Option (Int × MS) :=
  Option.bind (m_isSaying a1 s0) fun z4 =>
  if i32 z4.1 = 0 then
    some ((-1), z4.2)
  else
    Option.bind (m_isVerb (i32 a2) z4.2) fun z6 =>
    if i32 z6.1 = 0 then
      some ((-1), z6.2)
    else
      if i32 a3 = 0 then
        Option.bind (m_canTake a1 a2 z6.2) fun z11 =>
        if i32 z11.1 = 0 then
          some (0, z11.2)
        else
          some (1, z11.2)
      else
        if i32 a3 = i32 1 then
          Option.bind (m_givenOf a1 a2 z6.2) fun z10 =>
          some (z10.1, z10.2)
        else
          some ((-1), z6.2)
theorem met_pair {D : MD} {o : Nat} {a1 : Int} {a2 : Int} {a3 : Int} {s0 : MS} {res : Int × MS} (h : m_pair a1 a2 a3 s0 = some res) (l : Launch) : GMet l yX8_pair cX8_pair 4 (some .int) 5 (MRp D o) (MK D) (mAd o) [.ref o, J a1, J a2, J a3] s0 1 res := by
  refine GMet.of [(0, .ref o), (1, J a1), (2, J a2), (3, J a3)] (by decide) (MK_moved D) (Nat.le_of_ble_eq_true rfl) rfl ?_
  intro p e s m args below meth c hC
  have hC : GC p s m args meth c cX8_pair RX8 4 (some .int) (MK D) := hC
  unfold m_pair at h
  refine gw_aload_n 0 0 hC dX8_pair_0 rfl ?_
  refine gw_iload_n 1 1 hC dX8_pair_1 rfl ?_
  obtain ⟨z4, ez4, h⟩ := opt_e h
  refine gw_callV (As := [J a1]) (rest := []) (st' := [J z4.1]) 2 1 hC (met_isSaying ez4 l) (lw_V q2295 q2297 qs98 q161 q2298) (by decide +kernel) (by decide) (m_recv hC) rfl rfl (Nat.le_of_ble_eq_true rfl) dX8_pair_2 rfl ?_
  refine gw_if_eq 5 17 hC dX8_pair_5 (by decide) (fun c5 => ?_) (fun c5 => ?_)
  · replace h := if_t h c5
    refine gw_iconst 17 hC dX8_pair_17 ?_
    exact gw_iret 18 hC dX8_pair_18 h
  · replace h := if_f h c5
    refine gw_aload_n 8 0 hC dX8_pair_8 rfl ?_
    refine gw_iload_n 9 2 hC dX8_pair_9 rfl ?_
    refine gw_i2l 10 hC dX8_pair_10 ?_
    obtain ⟨z6, ez6, h⟩ := opt_e h
    refine gw_callV (As := [Lg (i32 a2)]) (rest := []) (st' := [J z6.1]) 11 1 hC (met_isVerb ez6 l) (lw_V q2389 q2391 qs118 q161 q2392) (by decide +kernel) (by decide) (m_recv hC) rfl rfl (Nat.le_of_ble_eq_true rfl) dX8_pair_11 rfl ?_
    refine gw_if_ne 14 19 hC dX8_pair_14 (by decide) (fun c7 => ?_) (fun c7 => ?_)
    · replace h := if_f h c7
      refine gw_iload_n 19 3 hC dX8_pair_19 rfl ?_
      refine gw_if_ne 20 40 hC dX8_pair_20 (by decide) (fun c8 => ?_) (fun c8 => ?_)
      · replace h := if_f h c8
        refine gw_iload_n 40 3 hC dX8_pair_40 rfl ?_
        refine gw_iconst 41 hC dX8_pair_41 ?_
        refine gw_icmp_ne 42 54 hC dX8_pair_42 (by decide) (fun c9 => ?_) (fun c9 => ?_)
        · replace h := if_f h c9
          refine gw_iconst 54 hC dX8_pair_54 ?_
          exact gw_iret 55 hC dX8_pair_55 h
        · replace h := if_t h c9
          refine gw_aload_n 45 0 hC dX8_pair_45 rfl ?_
          refine gw_iload_n 46 1 hC dX8_pair_46 rfl ?_
          refine gw_iload_n 47 2 hC dX8_pair_47 rfl ?_
          obtain ⟨z10, ez10, h⟩ := opt_e h
          refine gw_callV (As := [J a1, J a2]) (rest := []) (st' := [J z10.1]) 48 2 hC (met_givenOf ez10 l) (lw_V q2282 q2284 qs97 q161 q2285) (by decide +kernel) (by decide) (m_recv hC) rfl rfl (Nat.le_of_ble_eq_true rfl) dX8_pair_48 rfl ?_
          refine gw_goto 51 55 hC dX8_pair_51 (by decide) ?_
          exact gw_iret 55 hC dX8_pair_55 h
      · replace h := if_t h c8
        refine gw_aload_n 23 0 hC dX8_pair_23 rfl ?_
        refine gw_iload_n 24 1 hC dX8_pair_24 rfl ?_
        refine gw_iload_n 25 2 hC dX8_pair_25 rfl ?_
        obtain ⟨z11, ez11, h⟩ := opt_e h
        refine gw_callV (As := [J a1, J a2]) (rest := []) (st' := [J z11.1]) 26 2 hC (met_canTake ez11 l) (lw_V q2308 q2310 qs101 q161 q2311) (by decide +kernel) (by decide) (m_recv hC) rfl rfl (Nat.le_of_ble_eq_true rfl) dX8_pair_26 rfl ?_
        refine gw_if_eq 29 36 hC dX8_pair_29 (by decide) (fun c12 => ?_) (fun c12 => ?_)
        · replace h := if_t h c12
          refine gw_iconst 36 hC dX8_pair_36 ?_
          refine gw_goto 37 55 hC dX8_pair_37 (by decide) ?_
          exact gw_iret 55 hC dX8_pair_55 h
        · replace h := if_f h c12
          refine gw_iconst 32 hC dX8_pair_32 ?_
          refine gw_goto 33 55 hC dX8_pair_33 (by decide) ?_
          exact gw_iret 55 hC dX8_pair_55 h
    · replace h := if_t h c7
      refine gw_iconst 17 hC dX8_pair_17 ?_
      exact gw_iret 18 hC dX8_pair_18 h
/-! well(II)J -/
noncomputable def m_well (a1 : Int) (a2 : Int) (s0 : MS) : Option (Int × MS) :=
  Option.bind (m_isSaying a1 s0) fun z3 =>
  if i32 z3.1 = 0 then
    some ((-1000000000000000), z3.2)
  else
    Option.bind (m_isVerb (i32 a2) z3.2) fun z5 =>
    if i32 z5.1 = 0 then
      some ((-1000000000000000), z5.2)
    else
      Option.bind (m_wellOf a1 a2 z5.2) fun z7 =>
      some (z7.1, z7.2)
theorem met_well {D : MD} {o : Nat} {a1 : Int} {a2 : Int} {s0 : MS} {res : Int × MS} (h : m_well a1 a2 s0 = some res) (l : Launch) : GMet l yX8_well cX8_well 3 (some .long) 5 (MRp D o) (MK D) (mAd o) [.ref o, J a1, J a2] s0 2 res := by
  refine GMet.of [(0, .ref o), (1, J a1), (2, J a2)] (by decide) (MK_moved D) (Nat.le_of_ble_eq_true rfl) rfl ?_
  intro p e s m args below meth c hC
  have hC : GC p s m args meth c cX8_well RX8 3 (some .long) (MK D) := hC
  unfold m_well at h
  refine gw_aload_n 0 0 hC dX8_well_0 rfl ?_
  refine gw_iload_n 1 1 hC dX8_well_1 rfl ?_
  obtain ⟨z3, ez3, h⟩ := opt_e h
  refine gw_callV (As := [J a1]) (rest := []) (st' := [J z3.1]) 2 1 hC (met_isSaying ez3 l) (lw_V q2295 q2297 qs98 q161 q2298) (by decide +kernel) (by decide) (m_recv hC) rfl rfl (Nat.le_of_ble_eq_true rfl) dX8_well_2 rfl ?_
  refine gw_if_eq 5 26 hC dX8_well_5 (by decide) (fun c4 => ?_) (fun c4 => ?_)
  · replace h := if_t h c4
    refine gw_ldc2 (v := -1000000000000000) 26 hC dX8_well_26 q2401 (by decide) ?_
    exact gw_lret 29 hC dX8_well_29 h
  · replace h := if_f h c4
    refine gw_aload_n 8 0 hC dX8_well_8 rfl ?_
    refine gw_iload_n 9 2 hC dX8_well_9 rfl ?_
    refine gw_i2l 10 hC dX8_well_10 ?_
    obtain ⟨z5, ez5, h⟩ := opt_e h
    refine gw_callV (As := [Lg (i32 a2)]) (rest := []) (st' := [J z5.1]) 11 1 hC (met_isVerb ez5 l) (lw_V q2389 q2391 qs118 q161 q2392) (by decide +kernel) (by decide) (m_recv hC) rfl rfl (Nat.le_of_ble_eq_true rfl) dX8_well_11 rfl ?_
    refine gw_if_eq 14 26 hC dX8_well_14 (by decide) (fun c6 => ?_) (fun c6 => ?_)
    · replace h := if_t h c6
      refine gw_ldc2 (v := -1000000000000000) 26 hC dX8_well_26 q2401 (by decide) ?_
      exact gw_lret 29 hC dX8_well_29 h
    · replace h := if_f h c6
      refine gw_aload_n 17 0 hC dX8_well_17 rfl ?_
      refine gw_iload_n 18 1 hC dX8_well_18 rfl ?_
      refine gw_iload_n 19 2 hC dX8_well_19 rfl ?_
      obtain ⟨z7, ez7, h⟩ := opt_e h
      refine gw_callV (As := [J a1, J a2]) (rest := []) (st' := [Lg z7.1]) 20 2 hC (met_wellOf ez7 l) (lw_V q2349 q2351 qs109 q161 q2352) (by decide +kernel) (by decide) (m_recv hC) rfl rfl (Nat.le_of_ble_eq_true rfl) dX8_well_20 rfl ?_
      refine gw_goto 23 29 hC dX8_well_23 (by decide) ?_
      exact gw_lret 29 hC dX8_well_29 h
/-! kept(II)I -/
noncomputable def m_kept (a1 : Int) (a2 : Int) (s0 : MS) : Option (Int × MS) :=
  gd (ok 219 68) <|
  Option.bind (m_isIn (i32 a1) 0 (i32 ((s0 48 (i32 68)) - 1)) s0) fun z4 =>
  if i32 z4.1 = 0 then
    some ((-1), z4.2)
  else
    Option.bind (m_isIn (i32 a2) 0 2 z4.2) fun z6 =>
    if i32 z6.1 = 0 then
      some ((-1), z6.2)
    else
      gd (ok 219 ((69 + (3 * a1)) + a2)) <|
      some ((z6.2 48 (i32 ((69 + (3 * a1)) + a2))), z6.2)
theorem met_kept {D : MD} {o : Nat} {a1 : Int} {a2 : Int} {s0 : MS} {res : Int × MS} (h : m_kept a1 a2 s0 = some res) (l : Launch) : GMet l yX8_kept cX8_kept 3 (some .int) 2 (MRp D o) (MK D) (mAd o) [.ref o, J a1, J a2] s0 1 res := by
  refine GMet.of [(0, .ref o), (1, J a1), (2, J a2)] (by decide) (MK_moved D) (Nat.le_of_ble_eq_true rfl) rfl ?_
  intro p e s m args below meth c hC
  have hC : GC p s m args meth c cX8_kept RX8 3 (some .int) (MK D) := hC
  unfold m_kept at h
  refine gw_iload_n 0 1 hC dX8_kept_0 rfl ?_
  refine gw_i2l 1 hC dX8_kept_1 ?_
  refine gw_lconst (v := 0) 2 hC dX8_kept_2 (by decide) ?_
  refine gw_aload_n 3 0 hC dX8_kept_3 rfl ?_
  refine mg_48 4 hC dX8_kept_4 ?_
  refine gw_bipush 7 hC dX8_kept_7 (by decide) ?_
  obtain ⟨g3, h⟩ := gd_e h
  refine m_iald 9 48 hC (by decide) rfl g3 dX8_kept_9 ?_
  refine gw_iconst 10 hC dX8_kept_10 ?_
  refine gw_isub 11 hC dX8_kept_11 ?_
  refine gw_i2l 12 hC dX8_kept_12 ?_
  obtain ⟨z4, ez4, h⟩ := opt_e h
  refine gw_callS (As := [Lg (i32 a1), Lg 0, Lg (i32 ((s0 48 (i32 68)) - 1))]) (rest := []) (st' := [J z4.1]) 13 3 hC (met_isIn ez4 l) (lw_S q2123 q2124 q161 q2125) (by decide +kernel) (by decide) rfl rfl (Nat.le_of_ble_eq_true rfl) dX8_kept_13 rfl ?_
  refine gw_if_eq 16 47 hC dX8_kept_16 (by decide) (fun c5 => ?_) (fun c5 => ?_)
  · replace h := if_t h c5
    refine gw_iconst 47 hC dX8_kept_47 ?_
    exact gw_iret 48 hC dX8_kept_48 h
  · replace h := if_f h c5
    refine gw_iload_n 19 2 hC dX8_kept_19 rfl ?_
    refine gw_i2l 20 hC dX8_kept_20 ?_
    refine gw_lconst (v := 0) 21 hC dX8_kept_21 (by decide) ?_
    refine gw_ldc2 (v := 2) 22 hC dX8_kept_22 q2299 (by decide) ?_
    obtain ⟨z6, ez6, h⟩ := opt_e h
    refine gw_callS (As := [Lg (i32 a2), Lg 0, Lg 2]) (rest := []) (st' := [J z6.1]) 25 3 hC (met_isIn ez6 l) (lw_S q2123 q2124 q161 q2125) (by decide +kernel) (by decide) rfl rfl (Nat.le_of_ble_eq_true rfl) dX8_kept_25 rfl ?_
    refine gw_if_eq 28 47 hC dX8_kept_28 (by decide) (fun c7 => ?_) (fun c7 => ?_)
    · replace h := if_t h c7
      refine gw_iconst 47 hC dX8_kept_47 ?_
      exact gw_iret 48 hC dX8_kept_48 h
    · replace h := if_f h c7
      refine gw_aload_n 31 0 hC dX8_kept_31 rfl ?_
      refine mg_48 32 hC dX8_kept_32 ?_
      refine gw_bipush 35 hC dX8_kept_35 (by decide) ?_
      refine gw_iconst 37 hC dX8_kept_37 ?_
      refine gw_iload_n 38 1 hC dX8_kept_38 rfl ?_
      refine gw_imul 39 hC dX8_kept_39 ?_
      refine gw_iadd 40 hC dX8_kept_40 ?_
      refine gw_iload_n 41 2 hC dX8_kept_41 rfl ?_
      refine gw_iadd 42 hC dX8_kept_42 ?_
      obtain ⟨g8, h⟩ := gd_e h
      refine m_iald 43 48 hC (by decide) rfl g8 dX8_kept_43 ?_
      refine gw_goto 44 48 hC dX8_kept_44 (by decide) ?_
      exact gw_iret 48 hC dX8_kept_48 h
/-! best()J -/
noncomputable def m_best (s0 : MS) : Option (Int × MS) :=
  if i32 (s0 46 0) = 0 then
    some ((-1000000000000000), s0)
  else
    Option.bind (m_laysGiving s0) fun z2 =>
    if i32 (z2.2 55 0) = 0 then
      some ((-1000000000000000), z2.2)
    else
      some ((z2.2 56 0), z2.2)
theorem met_best {D : MD} {o : Nat} {s0 : MS} {res : Int × MS} (h : m_best s0 = some res) (l : Launch) : GMet l yX8_best cX8_best 1 (some .long) 7 (MRp D o) (MK D) (mAd o) [.ref o] s0 2 res := by
  refine GMet.of [(0, .ref o)] (by decide) (MK_moved D) (Nat.le_of_ble_eq_true rfl) rfl ?_
  intro p e s m args below meth c hC
  have hC : GC p s m args meth c cX8_best RX8 1 (some .long) (MK D) := hC
  unfold m_best at h
  refine gw_aload_n 0 0 hC dX8_best_0 rfl ?_
  refine mg_46 1 hC dX8_best_1 ?_
  refine gw_if_ne 4 11 hC dX8_best_4 (by decide) (fun c1 => ?_) (fun c1 => ?_)
  · replace h := if_f h c1
    refine gw_aload_n 11 0 hC dX8_best_11 rfl ?_
    obtain ⟨z2, ez2, h⟩ := opt_e h
    refine gw_callV (As := []) (rest := []) (st' := []) 12 0 hC (met_laysGiving ez2 l) (lw_V q2300 q2302 qs99 q161 q2303) (by decide +kernel) (by decide) (m_recv hC) rfl rfl (Nat.le_of_ble_eq_true rfl) dX8_best_12 rfl ?_
    refine gw_aload_n 15 0 hC dX8_best_15 rfl ?_
    refine mg_55 16 hC dX8_best_16 ?_
    refine gw_if_eq 19 29 hC dX8_best_19 (by decide) (fun c3 => ?_) (fun c3 => ?_)
    · replace h := if_t h c3
      refine gw_ldc2 (v := -1000000000000000) 29 hC dX8_best_29 q2401 (by decide) ?_
      exact gw_lret 32 hC dX8_best_32 h
    · replace h := if_f h c3
      refine gw_aload_n 22 0 hC dX8_best_22 rfl ?_
      refine mg_56 23 hC dX8_best_23 ?_
      refine gw_goto 26 32 hC dX8_best_26 (by decide) ?_
      exact gw_lret 32 hC dX8_best_32 h
  · replace h := if_t h c1
    refine gw_ldc2 (v := -1000000000000000) 7 hC dX8_best_7 q2401 (by decide) ?_
    exact gw_lret 10 hC dX8_best_10 h
/-! round(I)I -/
noncomputable def m_round (a1 : Int) (s0 : MS) : Option (Int × MS) :=
  if i32 (s0 46 0) = 0 then
    some ((-1), s0)
  else
    Option.bind (m_sayingMany s0) fun z3 =>
    Option.bind (m_isIn (i32 a1) (-1) (i32 (z3.1 - 1)) z3.2) fun z4 =>
    if i32 z4.1 = 0 then
      some ((-1), z4.2)
    else
      Option.bind (m_laysRound z4.2) fun z6 =>
      if i32 a1 = i32 (-1) then
        some ((z6.2 59 0), z6.2)
      else
        gd (ok 6 a1) <|
        some ((z6.2 58 (i32 a1)), z6.2)
theorem met_round {D : MD} {o : Nat} {a1 : Int} {s0 : MS} {res : Int × MS} (h : m_round a1 s0 = some res) (l : Launch) : GMet l yX8_round cX8_round 2 (some .int) 5 (MRp D o) (MK D) (mAd o) [.ref o, J a1] s0 1 res := by
  refine GMet.of [(0, .ref o), (1, J a1)] (by decide) (MK_moved D) (Nat.le_of_ble_eq_true rfl) rfl ?_
  intro p e s m args below meth c hC
  have hC : GC p s m args meth c cX8_round RX8 2 (some .int) (MK D) := hC
  unfold m_round at h
  refine gw_aload_n 0 0 hC dX8_round_0 rfl ?_
  refine mg_46 1 hC dX8_round_1 ?_
  refine gw_if_eq 4 25 hC dX8_round_4 (by decide) (fun c2 => ?_) (fun c2 => ?_)
  · replace h := if_t h c2
    refine gw_iconst 25 hC dX8_round_25 ?_
    exact gw_iret 26 hC dX8_round_26 h
  · replace h := if_f h c2
    refine gw_iload_n 7 1 hC dX8_round_7 rfl ?_
    refine gw_i2l 8 hC dX8_round_8 ?_
    refine gw_ldc2 (v := -1) 9 hC dX8_round_9 q2336 (by decide) ?_
    refine gw_aload_n 12 0 hC dX8_round_12 rfl ?_
    obtain ⟨z3, ez3, h⟩ := opt_e h
    refine gw_callV (As := []) (rest := [Lg (-1), Lg (i32 a1)]) (st' := [J z3.1, Lg (-1), Lg (i32 a1)]) 13 0 hC (met_sayingMany ez3 l) (lw_V q2278 q2280 qs96 q161 q2281) (by decide +kernel) (by decide) (m_recv hC) rfl rfl (Nat.le_of_ble_eq_true rfl) dX8_round_13 rfl ?_
    refine gw_iconst 16 hC dX8_round_16 ?_
    refine gw_isub 17 hC dX8_round_17 ?_
    refine gw_i2l 18 hC dX8_round_18 ?_
    obtain ⟨z4, ez4, h⟩ := opt_e h
    refine gw_callS (As := [Lg (i32 a1), Lg (-1), Lg (i32 (z3.1 - 1))]) (rest := []) (st' := [J z4.1]) 19 3 hC (met_isIn ez4 l) (lw_S q2123 q2124 q161 q2125) (by decide +kernel) (by decide) rfl rfl (Nat.le_of_ble_eq_true rfl) dX8_round_19 rfl ?_
    refine gw_if_ne 22 27 hC dX8_round_22 (by decide) (fun c5 => ?_) (fun c5 => ?_)
    · replace h := if_f h c5
      refine gw_aload_n 27 0 hC dX8_round_27 rfl ?_
      obtain ⟨z6, ez6, h⟩ := opt_e h
      refine gw_callV (As := []) (rest := []) (st' := []) 28 0 hC (met_laysRound ez6 l) (lw_V q2365 q2367 qs113 q161 q2368) (by decide +kernel) (by decide) (m_recv hC) rfl rfl (Nat.le_of_ble_eq_true rfl) dX8_round_28 rfl ?_
      refine gw_iload_n 31 1 hC dX8_round_31 rfl ?_
      refine gw_iconst 32 hC dX8_round_32 ?_
      refine gw_icmp_ne 33 43 hC dX8_round_33 (by decide) (fun c7 => ?_) (fun c7 => ?_)
      · replace h := if_f h c7
        refine gw_aload_n 43 0 hC dX8_round_43 rfl ?_
        refine mg_58 44 hC dX8_round_44 ?_
        refine gw_iload_n 47 1 hC dX8_round_47 rfl ?_
        obtain ⟨g8, h⟩ := gd_e h
        refine m_iald 48 58 hC (by decide) rfl g8 dX8_round_48 ?_
        exact gw_iret 49 hC dX8_round_49 h
      · replace h := if_t h c7
        refine gw_aload_n 36 0 hC dX8_round_36 rfl ?_
        refine mg_59 37 hC dX8_round_37 ?_
        refine gw_goto 40 49 hC dX8_round_40 (by decide) ?_
        exact gw_iret 49 hC dX8_round_49 h
    · replace h := if_t h c5
      refine gw_iconst 25 hC dX8_round_25 ?_
      exact gw_iret 26 hC dX8_round_26 h
/-! truths()I -/
noncomputable def m_truths_L17 (k61 : Int → Int → Int → MS → Option (Int × MS)) : Nat → Int → Int → Int → Int → MS → Option (Int × MS)
  | 0, _, _, _, _, _ => none
  | n + 1, x1_12, x2_13, x3_14, x4_15, s16 =>
    Option.bind (m_verbMany s16) fun z21 =>
    if i32 z21.1 ≤ i32 x4_15 then
      k61 x1_12 x2_13 x3_14 z21.2
    else
      bnd (fun (x1_23 : Int) (x2_24 : Int) (x4_25 : Int) (w26 : Int) (s27 : MS) =>
          bnd (x4_25 + 1) fun x4_28 =>
          m_truths_L17 k61 n x1_23 x2_24 w26 x4_28 s27) fun j29 =>
      bnd (fun (x1_30 : Int) (x2_31 : Int) (x4_32 : Int) (s33 : MS) =>
          j29 x1_30 x2_31 x4_32 0 s33) fun j34 =>
      if i32 x3_14 = 0 then
        j34 x1_12 x2_13 x4_15 z21.2
      else
        Option.bind (m_isLent x4_15 z21.2) fun z36 =>
        bnd (fun (x1_37 : Int) (x2_38 : Int) (x4_39 : Int) (s40 : MS) =>
            j29 x1_37 x2_38 x4_39 1 s40) fun j41 =>
        if i32 z36.1 = 0 then
          Option.bind (m_canTake x2_13 x4_15 z36.2) fun z43 =>
          if i32 z43.1 = 0 then
            j34 x1_12 x2_13 x4_15 z43.2
          else
            j41 x1_12 x2_13 x4_15 z43.2
        else
          j41 x1_12 x2_13 x4_15 z36.2
noncomputable def m_truths_L4 (k77 : Int → MS → Option (Int × MS)) : Nat → Int → Int → MS → Option (Int × MS)
  | 0, _, _, _ => none
  | n + 1, x1_3, x2_4, s5 =>
    Option.bind (m_sayingMany s5) fun z8 =>
    if i32 z8.1 ≤ i32 x2_4 then
      k77 x1_3 z8.2
    else
      bnd 1 fun x3_10 =>
      bnd 0 fun x4_11 =>
      m_truths_L17
        (fun (x1_45 : Int) (x2_46 : Int) (x3_47 : Int) (s48 : MS) =>
          bnd (fun (x1_49 : Int) (x2_50 : Int) (s51 : MS) =>
              bnd (x2_50 + 1) fun x2_52 =>
              m_truths_L4 k77 n x1_49 x2_52 s51) fun j53 =>
          if i32 x3_47 = 0 then
            j53 x1_45 x2_46 s48
          else
            bnd (ior x1_45 (ishl 1 x2_46)) fun x1_55 =>
            j53 x1_55 x2_46 s48)
        FU x1_3 x2_4 x3_10 x4_11 z8.2
noncomputable def m_truths (s0 : MS) : Option (Int × MS) :=
  bnd 0 fun x1_1 =>
  bnd 0 fun x2_2 =>
  m_truths_L4
    (fun (x1_56 : Int) (s57 : MS) =>
      some (x1_56, s57))
    FU x1_1 x2_2 s0
theorem wm_truths_L17 {p : Program} {l : Launch} {e : Env} {s : State} {m : MethodId} {args : Array Value} {below : List Frame} {meth : Method} {c : Code} {D : MD} {o : Nat} {res : Int × MS} {k61 : Int → Int → Int → MS → Option (Int × MS)} (hC : GC p s m args meth c cX8_truths RX8 5 (some .int) (MK D)) (hk61 : ∀ (x1_17 : Int) (x2_18 : Int) (x3_19 : Int) (s20 : MS), k61 x1_17 x2_18 x3_19 s20 = some res → GW p l e (rmd 5) s m args below meth c 5 (mAd o) (MRp D o) (MK D) 1 res s20 61 [(0, .ref o), (1, J x1_17), (2, J x2_18), (3, J x3_19)] []) : ∀ (n : Nat) (x1_12 : Int) (x2_13 : Int) (x3_14 : Int) (x4_15 : Int) (s16 : MS), m_truths_L17 k61 n x1_12 x2_13 x3_14 x4_15 s16 = some res → GW p l e (rmd 5) s m args below meth c 5 (mAd o) (MRp D o) (MK D) 1 res s16 17 [(0, .ref o), (1, J x1_12), (2, J x2_13), (3, J x3_14), (4, J x4_15)] [] := by
  intro n
  induction n with
  | zero =>
    intro x1_12 x2_13 x3_14 x4_15 s16 h
    cases h
  | succ n ih =>
    intro x1_12 x2_13 x3_14 x4_15 s16 h
    rw [m_truths_L17] at h
    refine gw_iload 17 4 hC dX8_truths_17 rfl ?_
    refine gw_aload_n 19 0 hC dX8_truths_19 rfl ?_
    obtain ⟨z21, ez21, h⟩ := opt_e h
    refine gw_callV (As := []) (rest := [J x4_15]) (st' := [J z21.1, J x4_15]) 20 0 hC (met_verbMany ez21 l) (lw_V q2259 q2261 qs92 q161 q2262) (by decide +kernel) (by decide) (m_recv hC) rfl rfl (Nat.le_of_ble_eq_true rfl) dX8_truths_20 rfl ?_
    refine gw_icmp_ge 23 61 hC dX8_truths_23 (by decide) (fun c22 => ?_) (fun c22 => ?_)
    · replace h := if_t h c22
      refine gw_sub [0, 1, 2, 3] rfl ?_
      exact hk61 _ _ _ _ h
    · replace h := if_f h c22
      refine gw_iload_n 26 3 hC dX8_truths_26 rfl ?_
      obtain ⟨j29, ej29, h⟩ := bnd_e h
      have hj29 : ∀ (x1_23 : Int) (x2_24 : Int) (x4_25 : Int) (w26 : Int) (s27 : MS), j29 x1_23 x2_24 x4_25 w26 s27 = some res → GW p l e (rmd 5) s m args below meth c 5 (mAd o) (MRp D o) (MK D) 1 res s27 54 [(0, .ref o), (1, J x1_23), (2, J x2_24), (4, J x4_25)] [J w26] := by
        clear h
        intro x1_23 x2_24 x4_25 w26 s27 h
        subst ej29
        refine gw_istore_n 54 [(3, J w26), (0, .ref o), (1, J x1_23), (2, J x2_24), (4, J x4_25)] hC dX8_truths_54 (by decide) rfl rfl ?_
        obtain ⟨x4_28, ex4_28, h⟩ := bnd_e h
        refine gw_iinc 55 4 [(4, J x4_28), (3, J w26), (0, .ref o), (1, J x1_23), (2, J x2_24)] hC dX8_truths_55 rfl ex4_28 (by decide) rfl ?_
        refine gw_goto 58 17 hC dX8_truths_58 (by decide) ?_
        refine gw_sub [2, 3, 4, 1, 0] rfl ?_
        exact ih _ _ _ _ _ h
      obtain ⟨j34, ej34, h⟩ := bnd_e h
      have hj34 : ∀ (x1_30 : Int) (x2_31 : Int) (x4_32 : Int) (s33 : MS), j34 x1_30 x2_31 x4_32 s33 = some res → GW p l e (rmd 5) s m args below meth c 5 (mAd o) (MRp D o) (MK D) 1 res s33 53 [(0, .ref o), (1, J x1_30), (2, J x2_31), (4, J x4_32)] [] := by
        clear h
        intro x1_30 x2_31 x4_32 s33 h
        subst ej34
        refine gw_iconst 53 hC dX8_truths_53 ?_
        refine gw_sub [0, 1, 2, 3] rfl ?_
        exact hj29 _ _ _ _ _ h
      refine gw_if_eq 27 53 hC dX8_truths_27 (by decide) (fun c35 => ?_) (fun c35 => ?_)
      · replace h := if_t h c35
        refine gw_sub [0, 1, 2, 4] rfl ?_
        exact hj34 _ _ _ _ h
      · replace h := if_f h c35
        refine gw_aload_n 30 0 hC dX8_truths_30 rfl ?_
        refine gw_iload 31 4 hC dX8_truths_31 rfl ?_
        obtain ⟨z36, ez36, h⟩ := opt_e h
        refine gw_callV (As := [J x4_15]) (rest := []) (st' := [J z36.1]) 33 1 hC (met_isLent ez36 l) (lw_V q2267 q2269 qs94 q161 q2270) (by decide +kernel) (by decide) (m_recv hC) rfl rfl (Nat.le_of_ble_eq_true rfl) dX8_truths_33 rfl ?_
        obtain ⟨j41, ej41, h⟩ := bnd_e h
        have hj41 : ∀ (x1_37 : Int) (x2_38 : Int) (x4_39 : Int) (s40 : MS), j41 x1_37 x2_38 x4_39 s40 = some res → GW p l e (rmd 5) s m args below meth c 5 (mAd o) (MRp D o) (MK D) 1 res s40 49 [(0, .ref o), (1, J x1_37), (2, J x2_38), (4, J x4_39)] [] := by
          clear h
          intro x1_37 x2_38 x4_39 s40 h
          subst ej41
          refine gw_iconst 49 hC dX8_truths_49 ?_
          refine gw_goto 50 54 hC dX8_truths_50 (by decide) ?_
          refine gw_sub [0, 1, 2, 3] rfl ?_
          exact hj29 _ _ _ _ _ h
        refine gw_if_ne 36 49 hC dX8_truths_36 (by decide) (fun c42 => ?_) (fun c42 => ?_)
        · replace h := if_f h c42
          refine gw_sub [0, 1, 2, 4] rfl ?_
          exact hj41 _ _ _ _ h
        · replace h := if_t h c42
          refine gw_aload_n 39 0 hC dX8_truths_39 rfl ?_
          refine gw_iload_n 40 2 hC dX8_truths_40 rfl ?_
          refine gw_iload 41 4 hC dX8_truths_41 rfl ?_
          obtain ⟨z43, ez43, h⟩ := opt_e h
          refine gw_callV (As := [J x2_13, J x4_15]) (rest := []) (st' := [J z43.1]) 43 2 hC (met_canTake ez43 l) (lw_V q2308 q2310 qs101 q161 q2311) (by decide +kernel) (by decide) (m_recv hC) rfl rfl (Nat.le_of_ble_eq_true rfl) dX8_truths_43 rfl ?_
          refine gw_if_eq 46 53 hC dX8_truths_46 (by decide) (fun c44 => ?_) (fun c44 => ?_)
          · replace h := if_t h c44
            refine gw_sub [0, 1, 2, 4] rfl ?_
            exact hj34 _ _ _ _ h
          · replace h := if_f h c44
            refine gw_sub [0, 1, 2, 4] rfl ?_
            exact hj41 _ _ _ _ h
theorem wm_truths_L4 {p : Program} {l : Launch} {e : Env} {s : State} {m : MethodId} {args : Array Value} {below : List Frame} {meth : Method} {c : Code} {D : MD} {o : Nat} {res : Int × MS} {k77 : Int → MS → Option (Int × MS)} (hC : GC p s m args meth c cX8_truths RX8 5 (some .int) (MK D)) (hk77 : ∀ (x1_6 : Int) (s7 : MS), k77 x1_6 s7 = some res → GW p l e (rmd 5) s m args below meth c 5 (mAd o) (MRp D o) (MK D) 1 res s7 77 [(1, J x1_6)] []) : ∀ (n : Nat) (x1_3 : Int) (x2_4 : Int) (s5 : MS), m_truths_L4 k77 n x1_3 x2_4 s5 = some res → GW p l e (rmd 5) s m args below meth c 5 (mAd o) (MRp D o) (MK D) 1 res s5 4 [(0, .ref o), (1, J x1_3), (2, J x2_4)] [] := by
  intro n
  induction n with
  | zero =>
    intro x1_3 x2_4 s5 h
    cases h
  | succ n ih =>
    intro x1_3 x2_4 s5 h
    rw [m_truths_L4] at h
    refine gw_iload_n 4 2 hC dX8_truths_4 rfl ?_
    refine gw_aload_n 5 0 hC dX8_truths_5 rfl ?_
    obtain ⟨z8, ez8, h⟩ := opt_e h
    refine gw_callV (As := []) (rest := [J x2_4]) (st' := [J z8.1, J x2_4]) 6 0 hC (met_sayingMany ez8 l) (lw_V q2278 q2280 qs96 q161 q2281) (by decide +kernel) (by decide) (m_recv hC) rfl rfl (Nat.le_of_ble_eq_true rfl) dX8_truths_6 rfl ?_
    refine gw_icmp_ge 9 77 hC dX8_truths_9 (by decide) (fun c9 => ?_) (fun c9 => ?_)
    · replace h := if_t h c9
      refine gw_sub [1] rfl ?_
      exact hk77 _ _ h
    · replace h := if_f h c9
      refine gw_iconst 12 hC dX8_truths_12 ?_
      obtain ⟨x3_10, ex3_10, h⟩ := bnd_e h
      refine gw_istore_n 13 [(3, J x3_10), (0, .ref o), (1, J x1_3), (2, J x2_4)] hC dX8_truths_13 (by decide) ex3_10 rfl ?_
      refine gw_iconst 14 hC dX8_truths_14 ?_
      obtain ⟨x4_11, ex4_11, h⟩ := bnd_e h
      refine gw_istore 15 [(4, J x4_11), (3, J x3_10), (0, .ref o), (1, J x1_3), (2, J x2_4)] hC dX8_truths_15 (by decide) ex4_11 rfl ?_
      refine gw_sub [2, 3, 4, 1, 0] rfl ?_
      refine wm_truths_L17 hC (fun x1_45 x2_46 x3_47 s48 h => ?_) FU _ _ _ _ _ h
      · refine gw_iload_n 61 3 hC dX8_truths_61 rfl ?_
        obtain ⟨j53, ej53, h⟩ := bnd_e h
        have hj53 : ∀ (x1_49 : Int) (x2_50 : Int) (s51 : MS), j53 x1_49 x2_50 s51 = some res → GW p l e (rmd 5) s m args below meth c 5 (mAd o) (MRp D o) (MK D) 1 res s51 71 [(0, .ref o), (1, J x1_49), (2, J x2_50)] [] := by
          clear h
          intro x1_49 x2_50 s51 h
          subst ej53
          obtain ⟨x2_52, ex2_52, h⟩ := bnd_e h
          refine gw_iinc 71 2 [(2, J x2_52), (0, .ref o), (1, J x1_49)] hC dX8_truths_71 rfl ex2_52 (by decide) rfl ?_
          refine gw_goto 74 4 hC dX8_truths_74 (by decide) ?_
          refine gw_sub [1, 2, 0] rfl ?_
          exact ih _ _ _ h
        refine gw_if_eq 62 71 hC dX8_truths_62 (by decide) (fun c54 => ?_) (fun c54 => ?_)
        · replace h := if_t h c54
          refine gw_sub [0, 1, 2] rfl ?_
          exact hj53 _ _ _ h
        · replace h := if_f h c54
          refine gw_iload_n 65 1 hC dX8_truths_65 rfl ?_
          refine gw_iconst 66 hC dX8_truths_66 ?_
          refine gw_iload_n 67 2 hC dX8_truths_67 rfl ?_
          refine gw_ishl 68 hC dX8_truths_68 ?_
          refine gw_ior 69 hC dX8_truths_69 ?_
          obtain ⟨x1_55, ex1_55, h⟩ := bnd_e h
          refine gw_istore_n 70 [(1, J x1_55), (0, .ref o), (2, J x2_46), (3, J x3_47)] hC dX8_truths_70 (by decide) ex1_55 rfl ?_
          refine gw_sub [1, 0, 2] rfl ?_
          exact hj53 _ _ _ h
theorem met_truths {D : MD} {o : Nat} {s0 : MS} {res : Int × MS} (h : m_truths s0 = some res) (l : Launch) : GMet l yX8_truths cX8_truths 5 (some .int) 5 (MRp D o) (MK D) (mAd o) [.ref o] s0 1 res := by
  refine GMet.of [(0, .ref o)] (by decide) (MK_moved D) (Nat.le_of_ble_eq_true rfl) rfl ?_
  intro p e s m args below meth c hC
  have hC : GC p s m args meth c cX8_truths RX8 5 (some .int) (MK D) := hC
  unfold m_truths at h
  refine gw_iconst 0 hC dX8_truths_0 ?_
  obtain ⟨x1_1, ex1_1, h⟩ := bnd_e h
  refine gw_istore_n 1 [(1, J x1_1), (0, .ref o)] hC dX8_truths_1 (by decide) ex1_1 rfl ?_
  refine gw_iconst 2 hC dX8_truths_2 ?_
  obtain ⟨x2_2, ex2_2, h⟩ := bnd_e h
  refine gw_istore_n 3 [(2, J x2_2), (1, J x1_1), (0, .ref o)] hC dX8_truths_3 (by decide) ex2_2 rfl ?_
  refine gw_sub [2, 1, 0] rfl ?_
  refine wm_truths_L4 hC (fun x1_56 s57 h => ?_) FU _ _ _ h
  · refine gw_iload_n 77 0 hC dX8_truths_77 rfl ?_
    exact gw_iret 78 hC dX8_truths_78 h
/-! needed()I -/
noncomputable def m_needed_L31 (k75 : Int → MS → Option (Int × MS)) : Nat → Int → Int → Int → MS → Option (Int × MS)
  | 0, _, _, _, _ => none
  | n + 1, x1_10, x2_11, x3_12, s13 =>
    Option.bind (m_verbMany s13) fun z16 =>
    if i32 z16.1 ≤ i32 x3_12 then
      k75 x2_11 z16.2
    else
      bnd (fun (x1_18 : Int) (x2_19 : Int) (x3_20 : Int) (s21 : MS) =>
          bnd (x3_20 + 1) fun x3_22 =>
          m_needed_L31 k75 n x1_18 x2_19 x3_22 s21) fun j23 =>
      if i32 (iand (ishr x1_10 x3_12) 1) = i32 1 then
        Option.bind (m_isFirstRow (iand x1_10 (ixor (ishl 1 x3_12) (-1))) 1 z16.2) fun z25 =>
        if i32 z25.1 = 0 then
          bnd (ior x2_11 (ishl 1 x3_12)) fun x2_27 =>
          j23 x1_10 x2_27 x3_12 z25.2
        else
          j23 x1_10 x2_11 x3_12 z25.2
      else
        j23 x1_10 x2_11 x3_12 z16.2
noncomputable def m_needed (s0 : MS) : Option (Int × MS) :=
  Option.bind (m_laysPairs s0) fun z1 =>
  Option.bind (m_sack z1.2) fun z2 =>
  bnd z2.1 fun x1_3 =>
  Option.bind (m_sayingMany z2.2) fun z4 =>
  if i32 z4.1 = 0 then
    some (0, z4.2)
  else
    Option.bind (m_isFirstRow x1_3 1 z4.2) fun z6 =>
    if i32 z6.1 = 0 then
      some (0, z6.2)
    else
      bnd 0 fun x2_8 =>
      bnd 0 fun x3_9 =>
      m_needed_L31
        (fun (x2_28 : Int) (s29 : MS) =>
          some (x2_28, s29))
        FU x1_3 x2_8 x3_9 z6.2
theorem wm_needed_L31 {p : Program} {l : Launch} {e : Env} {s : State} {m : MethodId} {args : Array Value} {below : List Frame} {meth : Method} {c : Code} {D : MD} {o : Nat} {res : Int × MS} {k75 : Int → MS → Option (Int × MS)} (hC : GC p s m args meth c cX8_needed RX8 4 (some .int) (MK D)) (hk75 : ∀ (x2_14 : Int) (s15 : MS), k75 x2_14 s15 = some res → GW p l e (rmd 6) s m args below meth c 4 (mAd o) (MRp D o) (MK D) 1 res s15 75 [(2, J x2_14)] []) : ∀ (n : Nat) (x1_10 : Int) (x2_11 : Int) (x3_12 : Int) (s13 : MS), m_needed_L31 k75 n x1_10 x2_11 x3_12 s13 = some res → GW p l e (rmd 6) s m args below meth c 4 (mAd o) (MRp D o) (MK D) 1 res s13 31 [(0, .ref o), (1, J x1_10), (2, J x2_11), (3, J x3_12)] [] := by
  intro n
  induction n with
  | zero =>
    intro x1_10 x2_11 x3_12 s13 h
    cases h
  | succ n ih =>
    intro x1_10 x2_11 x3_12 s13 h
    rw [m_needed_L31] at h
    refine gw_iload_n 31 3 hC dX8_needed_31 rfl ?_
    refine gw_aload_n 32 0 hC dX8_needed_32 rfl ?_
    obtain ⟨z16, ez16, h⟩ := opt_e h
    refine gw_callV (As := []) (rest := [J x3_12]) (st' := [J z16.1, J x3_12]) 33 0 hC (met_verbMany ez16 l) (lw_V q2259 q2261 qs92 q161 q2262) (by decide +kernel) (by decide) (m_recv hC) rfl rfl (Nat.le_of_ble_eq_true rfl) dX8_needed_33 rfl ?_
    refine gw_icmp_ge 36 75 hC dX8_needed_36 (by decide) (fun c17 => ?_) (fun c17 => ?_)
    · replace h := if_t h c17
      refine gw_sub [2] rfl ?_
      exact hk75 _ _ h
    · replace h := if_f h c17
      refine gw_iload_n 39 1 hC dX8_needed_39 rfl ?_
      refine gw_iload_n 40 3 hC dX8_needed_40 rfl ?_
      refine gw_ishr 41 hC dX8_needed_41 ?_
      refine gw_iconst 42 hC dX8_needed_42 ?_
      refine gw_iand 43 hC dX8_needed_43 ?_
      refine gw_iconst 44 hC dX8_needed_44 ?_
      obtain ⟨j23, ej23, h⟩ := bnd_e h
      have hj23 : ∀ (x1_18 : Int) (x2_19 : Int) (x3_20 : Int) (s21 : MS), j23 x1_18 x2_19 x3_20 s21 = some res → GW p l e (rmd 6) s m args below meth c 4 (mAd o) (MRp D o) (MK D) 1 res s21 69 [(0, .ref o), (1, J x1_18), (2, J x2_19), (3, J x3_20)] [] := by
        clear h
        intro x1_18 x2_19 x3_20 s21 h
        subst ej23
        obtain ⟨x3_22, ex3_22, h⟩ := bnd_e h
        refine gw_iinc 69 3 [(3, J x3_22), (0, .ref o), (1, J x1_18), (2, J x2_19)] hC dX8_needed_69 rfl ex3_22 (by decide) rfl ?_
        refine gw_goto 72 31 hC dX8_needed_72 (by decide) ?_
        refine gw_sub [1, 2, 3, 0] rfl ?_
        exact ih _ _ _ _ h
      refine gw_icmp_ne 45 69 hC dX8_needed_45 (by decide) (fun c24 => ?_) (fun c24 => ?_)
      · replace h := if_f h c24
        refine gw_sub [0, 1, 2, 3] rfl ?_
        exact hj23 _ _ _ _ h
      · replace h := if_t h c24
        refine gw_aload_n 48 0 hC dX8_needed_48 rfl ?_
        refine gw_iload_n 49 1 hC dX8_needed_49 rfl ?_
        refine gw_iconst 50 hC dX8_needed_50 ?_
        refine gw_iload_n 51 3 hC dX8_needed_51 rfl ?_
        refine gw_ishl 52 hC dX8_needed_52 ?_
        refine gw_iconst 53 hC dX8_needed_53 ?_
        refine gw_ixor 54 hC dX8_needed_54 ?_
        refine gw_iand 55 hC dX8_needed_55 ?_
        refine gw_iconst 56 hC dX8_needed_56 ?_
        obtain ⟨z25, ez25, h⟩ := opt_e h
        refine gw_callV (As := [J (iand x1_10 (ixor (ishl 1 x3_12) (-1))), J 1]) (rest := []) (st' := [J z25.1]) 57 2 hC (met_isFirstRow ez25 l) (lw_V q2353 q2355 qs110 q161 q2356) (by decide +kernel) (by decide) (m_recv hC) rfl rfl (Nat.le_of_ble_eq_true rfl) dX8_needed_57 rfl ?_
        refine gw_if_ne 60 69 hC dX8_needed_60 (by decide) (fun c26 => ?_) (fun c26 => ?_)
        · replace h := if_f h c26
          refine gw_sub [0, 1, 2, 3] rfl ?_
          exact hj23 _ _ _ _ h
        · replace h := if_t h c26
          refine gw_iload_n 63 2 hC dX8_needed_63 rfl ?_
          refine gw_iconst 64 hC dX8_needed_64 ?_
          refine gw_iload_n 65 3 hC dX8_needed_65 rfl ?_
          refine gw_ishl 66 hC dX8_needed_66 ?_
          refine gw_ior 67 hC dX8_needed_67 ?_
          obtain ⟨x2_27, ex2_27, h⟩ := bnd_e h
          refine gw_istore_n 68 [(2, J x2_27), (0, .ref o), (1, J x1_10), (3, J x3_12)] hC dX8_needed_68 (by decide) ex2_27 rfl ?_
          refine gw_sub [1, 2, 0, 3] rfl ?_
          exact hj23 _ _ _ _ h
theorem met_needed {D : MD} {o : Nat} {s0 : MS} {res : Int × MS} (h : m_needed s0 = some res) (l : Launch) : GMet l yX8_needed cX8_needed 4 (some .int) 6 (MRp D o) (MK D) (mAd o) [.ref o] s0 1 res := by
  refine GMet.of [(0, .ref o)] (by decide) (MK_moved D) (Nat.le_of_ble_eq_true rfl) rfl ?_
  intro p e s m args below meth c hC
  have hC : GC p s m args meth c cX8_needed RX8 4 (some .int) (MK D) := hC
  unfold m_needed at h
  refine gw_aload_n 0 0 hC dX8_needed_0 rfl ?_
  obtain ⟨z1, ez1, h⟩ := opt_e h
  refine gw_callV (As := []) (rest := []) (st' := []) 1 0 hC (met_laysPairs ez1 l) (lw_V q2304 q2306 qs100 q161 q2307) (by decide +kernel) (by decide) (m_recv hC) rfl rfl (Nat.le_of_ble_eq_true rfl) dX8_needed_1 rfl ?_
  refine gw_aload_n 4 0 hC dX8_needed_4 rfl ?_
  obtain ⟨z2, ez2, h⟩ := opt_e h
  refine gw_callV (As := []) (rest := []) (st' := [J z2.1]) 5 0 hC (met_sack ez2 l) (lw_V q2263 q2265 qs93 q161 q2266) (by decide +kernel) (by decide) (m_recv hC) rfl rfl (Nat.le_of_ble_eq_true rfl) dX8_needed_5 rfl ?_
  obtain ⟨x1_3, ex1_3, h⟩ := bnd_e h
  refine gw_istore_n 8 [(1, J x1_3), (0, .ref o)] hC dX8_needed_8 (by decide) ex1_3 rfl ?_
  refine gw_aload_n 9 1 hC dX8_needed_9 rfl ?_
  obtain ⟨z4, ez4, h⟩ := opt_e h
  refine gw_callV (As := []) (rest := []) (st' := [J z4.1]) 10 0 hC (met_sayingMany ez4 l) (lw_V q2278 q2280 qs96 q161 q2281) (by decide +kernel) (by decide) (m_recv hC) rfl rfl (Nat.le_of_ble_eq_true rfl) dX8_needed_10 rfl ?_
  refine gw_if_eq 13 25 hC dX8_needed_13 (by decide) (fun c5 => ?_) (fun c5 => ?_)
  · replace h := if_t h c5
    refine gw_iconst 25 hC dX8_needed_25 ?_
    exact gw_iret 26 hC dX8_needed_26 h
  · replace h := if_f h c5
    refine gw_aload_n 16 1 hC dX8_needed_16 rfl ?_
    refine gw_iload_n 17 0 hC dX8_needed_17 rfl ?_
    refine gw_iconst 18 hC dX8_needed_18 ?_
    obtain ⟨z6, ez6, h⟩ := opt_e h
    refine gw_callV (As := [J x1_3, J 1]) (rest := []) (st' := [J z6.1]) 19 2 hC (met_isFirstRow ez6 l) (lw_V q2353 q2355 qs110 q161 q2356) (by decide +kernel) (by decide) (m_recv hC) rfl rfl (Nat.le_of_ble_eq_true rfl) dX8_needed_19 rfl ?_
    refine gw_if_ne 22 27 hC dX8_needed_22 (by decide) (fun c7 => ?_) (fun c7 => ?_)
    · replace h := if_f h c7
      refine gw_iconst 27 hC dX8_needed_27 ?_
      obtain ⟨x2_8, ex2_8, h⟩ := bnd_e h
      refine gw_istore_n 28 [(2, J x2_8), (1, J x1_3), (0, .ref o)] hC dX8_needed_28 (by decide) ex2_8 rfl ?_
      refine gw_iconst 29 hC dX8_needed_29 ?_
      obtain ⟨x3_9, ex3_9, h⟩ := bnd_e h
      refine gw_istore_n 30 [(3, J x3_9), (2, J x2_8), (1, J x1_3), (0, .ref o)] hC dX8_needed_30 (by decide) ex3_9 rfl ?_
      refine gw_sub [3, 2, 1, 0] rfl ?_
      refine wm_needed_L31 hC (fun x2_28 s29 h => ?_) FU _ _ _ _ h
      · refine gw_iload_n 75 0 hC dX8_needed_75 rfl ?_
        exact gw_iret 76 hC dX8_needed_76 h
    · replace h := if_t h c7
      refine gw_iconst 25 hC dX8_needed_25 ?_
      exact gw_iret 26 hC dX8_needed_26 h
/-! clashes()I -/
noncomputable def m_clashes_L4 (k40 : Int → MS → Option (Int × MS)) : Nat → Int → Int → MS → Option (Int × MS)
  | 0, _, _, _ => none
  | n + 1, x1_3, x2_4, s5 =>
    Option.bind (m_sayingMany s5) fun z8 =>
    if i32 z8.1 ≤ i32 x2_4 then
      k40 x1_3 z8.2
    else
      gd (ok 6 x2_4) <|
      gd (ok 42 ((7 * x2_4) + (z8.2 53 (i32 x2_4)))) <|
      bnd (fun (x1_12 : Int) (x2_13 : Int) (s14 : MS) =>
          bnd (x2_13 + 1) fun x2_15 =>
          m_clashes_L4 k40 n x1_12 x2_15 s14) fun j16 =>
      if i32 (z8.2 52 (i32 ((7 * x2_4) + (z8.2 53 (i32 x2_4))))) = 0 then
        bnd (x1_3 + 1) fun x1_18 =>
        j16 x1_18 x2_4 z8.2
      else
        j16 x1_3 x2_4 z8.2
noncomputable def m_clashes (s0 : MS) : Option (Int × MS) :=
  bnd 0 fun x1_1 =>
  bnd 0 fun x2_2 =>
  m_clashes_L4
    (fun (x1_19 : Int) (s20 : MS) =>
      some (x1_19, s20))
    FU x1_1 x2_2 s0
theorem wm_clashes_L4 {p : Program} {l : Launch} {e : Env} {s : State} {m : MethodId} {args : Array Value} {below : List Frame} {meth : Method} {c : Code} {D : MD} {o : Nat} {res : Int × MS} {k40 : Int → MS → Option (Int × MS)} (hC : GC p s m args meth c cX8_clashes RX8 3 (some .int) (MK D)) (hk40 : ∀ (x1_6 : Int) (s7 : MS), k40 x1_6 s7 = some res → GW p l e (rmd 2) s m args below meth c 3 (mAd o) (MRp D o) (MK D) 1 res s7 40 [(1, J x1_6)] []) : ∀ (n : Nat) (x1_3 : Int) (x2_4 : Int) (s5 : MS), m_clashes_L4 k40 n x1_3 x2_4 s5 = some res → GW p l e (rmd 2) s m args below meth c 3 (mAd o) (MRp D o) (MK D) 1 res s5 4 [(0, .ref o), (1, J x1_3), (2, J x2_4)] [] := by
  intro n
  induction n with
  | zero =>
    intro x1_3 x2_4 s5 h
    cases h
  | succ n ih =>
    intro x1_3 x2_4 s5 h
    rw [m_clashes_L4] at h
    refine gw_iload_n 4 2 hC dX8_clashes_4 rfl ?_
    refine gw_aload_n 5 0 hC dX8_clashes_5 rfl ?_
    obtain ⟨z8, ez8, h⟩ := opt_e h
    refine gw_callV (As := []) (rest := [J x2_4]) (st' := [J z8.1, J x2_4]) 6 0 hC (met_sayingMany ez8 l) (lw_V q2278 q2280 qs96 q161 q2281) (by decide +kernel) (by decide) (m_recv hC) rfl rfl (Nat.le_of_ble_eq_true rfl) dX8_clashes_6 rfl ?_
    refine gw_icmp_ge 9 40 hC dX8_clashes_9 (by decide) (fun c9 => ?_) (fun c9 => ?_)
    · replace h := if_t h c9
      refine gw_sub [1] rfl ?_
      exact hk40 _ _ h
    · replace h := if_f h c9
      refine gw_aload_n 12 0 hC dX8_clashes_12 rfl ?_
      refine mg_52 13 hC dX8_clashes_13 ?_
      refine gw_bipush 16 hC dX8_clashes_16 (by decide) ?_
      refine gw_iload_n 18 2 hC dX8_clashes_18 rfl ?_
      refine gw_imul 19 hC dX8_clashes_19 ?_
      refine gw_aload_n 20 0 hC dX8_clashes_20 rfl ?_
      refine mg_53 21 hC dX8_clashes_21 ?_
      refine gw_iload_n 24 2 hC dX8_clashes_24 rfl ?_
      obtain ⟨g10, h⟩ := gd_e h
      refine m_iald 25 53 hC (by decide) rfl g10 dX8_clashes_25 ?_
      refine gw_iadd 26 hC dX8_clashes_26 ?_
      obtain ⟨g11, h⟩ := gd_e h
      refine m_zald 27 52 hC (by decide) rfl g11 dX8_clashes_27 ?_
      obtain ⟨j16, ej16, h⟩ := bnd_e h
      have hj16 : ∀ (x1_12 : Int) (x2_13 : Int) (s14 : MS), j16 x1_12 x2_13 s14 = some res → GW p l e (rmd 2) s m args below meth c 3 (mAd o) (MRp D o) (MK D) 1 res s14 34 [(0, .ref o), (1, J x1_12), (2, J x2_13)] [] := by
        clear h
        intro x1_12 x2_13 s14 h
        subst ej16
        obtain ⟨x2_15, ex2_15, h⟩ := bnd_e h
        refine gw_iinc 34 2 [(2, J x2_15), (0, .ref o), (1, J x1_12)] hC dX8_clashes_34 rfl ex2_15 (by decide) rfl ?_
        refine gw_goto 37 4 hC dX8_clashes_37 (by decide) ?_
        refine gw_sub [1, 2, 0] rfl ?_
        exact ih _ _ _ h
      refine gw_if_ne 28 34 hC dX8_clashes_28 (by decide) (fun c17 => ?_) (fun c17 => ?_)
      · replace h := if_f h c17
        refine gw_sub [0, 1, 2] rfl ?_
        exact hj16 _ _ _ h
      · replace h := if_t h c17
        obtain ⟨x1_18, ex1_18, h⟩ := bnd_e h
        refine gw_iinc 31 1 [(1, J x1_18), (0, .ref o), (2, J x2_4)] hC dX8_clashes_31 rfl ex1_18 (by decide) rfl ?_
        refine gw_sub [1, 0, 2] rfl ?_
        exact hj16 _ _ _ h
theorem met_clashes {D : MD} {o : Nat} {s0 : MS} {res : Int × MS} (h : m_clashes s0 = some res) (l : Launch) : GMet l yX8_clashes cX8_clashes 3 (some .int) 2 (MRp D o) (MK D) (mAd o) [.ref o] s0 1 res := by
  refine GMet.of [(0, .ref o)] (by decide) (MK_moved D) (Nat.le_of_ble_eq_true rfl) rfl ?_
  intro p e s m args below meth c hC
  have hC : GC p s m args meth c cX8_clashes RX8 3 (some .int) (MK D) := hC
  unfold m_clashes at h
  refine gw_iconst 0 hC dX8_clashes_0 ?_
  obtain ⟨x1_1, ex1_1, h⟩ := bnd_e h
  refine gw_istore_n 1 [(1, J x1_1), (0, .ref o)] hC dX8_clashes_1 (by decide) ex1_1 rfl ?_
  refine gw_iconst 2 hC dX8_clashes_2 ?_
  obtain ⟨x2_2, ex2_2, h⟩ := bnd_e h
  refine gw_istore_n 3 [(2, J x2_2), (1, J x1_1), (0, .ref o)] hC dX8_clashes_3 (by decide) ex2_2 rfl ?_
  refine gw_sub [2, 1, 0] rfl ?_
  refine wm_clashes_L4 hC (fun x1_19 s20 h => ?_) FU _ _ _ h
  · refine gw_iload_n 40 0 hC dX8_clashes_40 rfl ?_
    exact gw_iret 41 hC dX8_clashes_41 h
/-! spilt(I)I -/
noncomputable def m_spilt_L53 (k112 : Int → Int → Int → MS → Option (Int × MS)) : Nat → Int → Int → Int → Int → Int → MS → Option (Int × MS)
  | 0, _, _, _, _, _, _ => none
  | n + 1, x1_14, x2_15, x3_16, x4_17, x5_18, s19 =>
    if i32 x5_18 = 0 then
      k112 x1_14 x3_16 x4_17 s19
    else
      Option.bind (m_clashes s19) fun z25 =>
      bnd z25.1 fun x6_26 =>
      bnd (fun (x1_27 : Int) (x2_28 : Int) (x3_29 : Int) (x4_30 : Int) (s31 : MS) =>
          Option.bind (m_sayingMany s31) fun z32 =>
          Option.bind (m_isNextRow (z32.1 - 1) x2_28 0 z32.2) fun z33 =>
          bnd z33.1 fun x5_34 =>
          m_spilt_L53 k112 n x1_27 x2_28 x3_29 x4_30 x5_34 z33.2) fun j35 =>
      bnd (fun (x1_36 : Int) (x2_37 : Int) (x6_38 : Int) (s39 : MS) =>
          bnd (fun (x1_40 : Int) (x2_41 : Int) (x3_42 : Int) (w43 : Int) (s44 : MS) =>
              j35 x1_40 x2_41 x3_42 w43 s44) fun j45 =>
          if i32 x1_36 = i32 (-1) then
            j45 x1_36 x2_37 x6_38 (-1) s39
          else
            gd (ok 6 x1_36) <|
            j45 x1_36 x2_37 x6_38 (s39 53 (i32 x1_36)) s39) fun j48 =>
      if i32 x3_16 = i32 (-1) then
        j48 x1_14 x2_15 x6_26 z25.2
      else
        if i32 x3_16 ≤ i32 x6_26 then
          j35 x1_14 x2_15 x3_16 x4_17 z25.2
        else
          j48 x1_14 x2_15 x6_26 z25.2
noncomputable def m_spilt (a1 : Int) (s0 : MS) : Option (Int × MS) :=
  if i32 (s0 46 0) = 0 then
    some ((-1), s0)
  else
    bnd (fun (x1_3 : Int) (s4 : MS) =>
        Option.bind (m_sayingMany s4) fun z5 =>
        if i32 z5.1 = 0 then
          some (0, z5.2)
        else
          Option.bind (m_laysPairs z5.2) fun z7 =>
          Option.bind (m_sack z7.2) fun z8 =>
          bnd z8.1 fun x2_9 =>
          bnd (-1) fun x3_10 =>
          bnd (-1) fun x4_11 =>
          Option.bind (m_isFirstRow x2_9 0 z8.2) fun z12 =>
          bnd z12.1 fun x5_13 =>
          m_spilt_L53
            (fun (x1_51 : Int) (x3_52 : Int) (x4_53 : Int) (s54 : MS) =>
              if i32 x1_51 = i32 (-1) then
                some (x3_52, s54)
              else
                some (x4_53, s54))
            FU x1_3 x2_9 x3_10 x4_11 x5_13 z12.2) fun j56 =>
    if i32 a1 = i32 (-1) then
      j56 a1 s0
    else
      Option.bind (m_isSaying a1 s0) fun z58 =>
      if i32 z58.1 = 0 then
        some ((-1), z58.2)
      else
        j56 a1 z58.2
theorem wm_spilt_L53 {p : Program} {l : Launch} {e : Env} {s : State} {m : MethodId} {args : Array Value} {below : List Frame} {meth : Method} {c : Code} {D : MD} {o : Nat} {res : Int × MS} {k112 : Int → Int → Int → MS → Option (Int × MS)} (hC : GC p s m args meth c cX8_spilt RX8 7 (some .int) (MK D)) (hk112 : ∀ (x1_20 : Int) (x3_21 : Int) (x4_22 : Int) (s23 : MS), k112 x1_20 x3_21 x4_22 s23 = some res → GW p l e (rmd 6) s m args below meth c 7 (mAd o) (MRp D o) (MK D) 1 res s23 112 [(1, J x1_20), (3, J x3_21), (4, J x4_22)] []) : ∀ (n : Nat) (x1_14 : Int) (x2_15 : Int) (x3_16 : Int) (x4_17 : Int) (x5_18 : Int) (s19 : MS), m_spilt_L53 k112 n x1_14 x2_15 x3_16 x4_17 x5_18 s19 = some res → GW p l e (rmd 6) s m args below meth c 7 (mAd o) (MRp D o) (MK D) 1 res s19 53 [(0, .ref o), (1, J x1_14), (2, J x2_15), (3, J x3_16), (4, J x4_17), (5, J x5_18)] [] := by
  intro n
  induction n with
  | zero =>
    intro x1_14 x2_15 x3_16 x4_17 x5_18 s19 h
    cases h
  | succ n ih =>
    intro x1_14 x2_15 x3_16 x4_17 x5_18 s19 h
    rw [m_spilt_L53] at h
    refine gw_iload 53 5 hC dX8_spilt_53 rfl ?_
    refine gw_if_eq 55 112 hC dX8_spilt_55 (by decide) (fun c24 => ?_) (fun c24 => ?_)
    · replace h := if_t h c24
      refine gw_sub [1, 3, 4] rfl ?_
      exact hk112 _ _ _ _ h
    · replace h := if_f h c24
      refine gw_aload_n 58 0 hC dX8_spilt_58 rfl ?_
      obtain ⟨z25, ez25, h⟩ := opt_e h
      refine gw_callV (As := []) (rest := []) (st' := [J z25.1]) 59 0 hC (met_clashes ez25 l) (lw_V q2426 q2428 qs119 q161 q2429) (by decide +kernel) (by decide) (m_recv hC) rfl rfl (Nat.le_of_ble_eq_true rfl) dX8_spilt_59 rfl ?_
      obtain ⟨x6_26, ex6_26, h⟩ := bnd_e h
      refine gw_istore 62 [(6, J x6_26), (0, .ref o), (1, J x1_14), (2, J x2_15), (3, J x3_16), (4, J x4_17), (5, J x5_18)] hC dX8_spilt_62 (by decide) ex6_26 rfl ?_
      refine gw_iload_n 64 4 hC dX8_spilt_64 rfl ?_
      refine gw_iconst 65 hC dX8_spilt_65 ?_
      obtain ⟨j35, ej35, h⟩ := bnd_e h
      have hj35 : ∀ (x1_27 : Int) (x2_28 : Int) (x3_29 : Int) (x4_30 : Int) (s31 : MS), j35 x1_27 x2_28 x3_29 x4_30 s31 = some res → GW p l e (rmd 6) s m args below meth c 7 (mAd o) (MRp D o) (MK D) 1 res s31 95 [(0, .ref o), (1, J x1_27), (2, J x2_28), (3, J x3_29), (4, J x4_30)] [] := by
        clear h
        intro x1_27 x2_28 x3_29 x4_30 s31 h
        subst ej35
        refine gw_aload_n 95 0 hC dX8_spilt_95 rfl ?_
        refine gw_aload_n 96 0 hC dX8_spilt_96 rfl ?_
        obtain ⟨z32, ez32, h⟩ := opt_e h
        refine gw_callV (As := []) (rest := [.ref o]) (st' := [J z32.1, .ref o]) 97 0 hC (met_sayingMany ez32 l) (lw_V q2278 q2280 qs96 q161 q2281) (by decide +kernel) (by decide) (m_recv hC) rfl rfl (Nat.le_of_ble_eq_true rfl) dX8_spilt_97 rfl ?_
        refine gw_iconst 100 hC dX8_spilt_100 ?_
        refine gw_isub 101 hC dX8_spilt_101 ?_
        refine gw_iload_n 102 2 hC dX8_spilt_102 rfl ?_
        refine gw_iconst 103 hC dX8_spilt_103 ?_
        obtain ⟨z33, ez33, h⟩ := opt_e h
        refine gw_callV (As := [J (z32.1 - 1), J x2_28, J 0]) (rest := []) (st' := [J z33.1]) 104 3 hC (met_isNextRow ez33 l) (lw_V q2357 q2359 qs111 q161 q2360) (by decide +kernel) (by decide) (m_recv hC) rfl rfl (Nat.le_of_ble_eq_true rfl) dX8_spilt_104 rfl ?_
        obtain ⟨x5_34, ex5_34, h⟩ := bnd_e h
        refine gw_istore 107 [(5, J x5_34), (0, .ref o), (1, J x1_27), (2, J x2_28), (3, J x3_29), (4, J x4_30)] hC dX8_spilt_107 (by decide) ex5_34 rfl ?_
        refine gw_goto 109 53 hC dX8_spilt_109 (by decide) ?_
        refine gw_sub [1, 2, 3, 4, 5, 0] rfl ?_
        exact ih _ _ _ _ _ _ h
      obtain ⟨j48, ej48, h⟩ := bnd_e h
      have hj48 : ∀ (x1_36 : Int) (x2_37 : Int) (x6_38 : Int) (s39 : MS), j48 x1_36 x2_37 x6_38 s39 = some res → GW p l e (rmd 6) s m args below meth c 7 (mAd o) (MRp D o) (MK D) 1 res s39 75 [(0, .ref o), (1, J x1_36), (2, J x2_37), (6, J x6_38)] [] := by
        clear h
        intro x1_36 x2_37 x6_38 s39 h
        subst ej48
        refine gw_iload 75 3 hC dX8_spilt_75 rfl ?_
        refine gw_istore_n 77 [(3, J x6_38), (0, .ref o), (1, J x1_36), (2, J x2_37), (6, J x6_38)] hC dX8_spilt_77 (by decide) rfl rfl ?_
        refine gw_iload_n 78 2 hC dX8_spilt_78 rfl ?_
        refine gw_iconst 79 hC dX8_spilt_79 ?_
        obtain ⟨j45, ej45, h⟩ := bnd_e h
        have hj45 : ∀ (x1_40 : Int) (x2_41 : Int) (x3_42 : Int) (w43 : Int) (s44 : MS), j45 x1_40 x2_41 x3_42 w43 s44 = some res → GW p l e (rmd 6) s m args below meth c 7 (mAd o) (MRp D o) (MK D) 1 res s44 93 [(0, .ref o), (1, J x1_40), (2, J x2_41), (3, J x3_42)] [J w43] := by
          clear h
          intro x1_40 x2_41 x3_42 w43 s44 h
          subst ej45
          refine gw_istore 93 [(4, J w43), (0, .ref o), (1, J x1_40), (2, J x2_41), (3, J x3_42)] hC dX8_spilt_93 (by decide) rfl rfl ?_
          refine gw_sub [1, 2, 3, 4, 0] rfl ?_
          exact hj35 _ _ _ _ _ h
        refine gw_icmp_ne 80 87 hC dX8_spilt_80 (by decide) (fun c46 => ?_) (fun c46 => ?_)
        · replace h := if_f h c46
          refine gw_aload_n 87 1 hC dX8_spilt_87 rfl ?_
          refine mg_53 88 hC dX8_spilt_88 ?_
          refine gw_iload_n 91 2 hC dX8_spilt_91 rfl ?_
          obtain ⟨g47, h⟩ := gd_e h
          refine m_iald 92 53 hC (by decide) rfl g47 dX8_spilt_92 ?_
          refine gw_sub [1, 2, 3, 0] rfl ?_
          exact hj45 _ _ _ _ _ h
        · replace h := if_t h c46
          refine gw_iconst 83 hC dX8_spilt_83 ?_
          refine gw_goto 84 93 hC dX8_spilt_84 (by decide) ?_
          refine gw_sub [1, 2, 3, 0] rfl ?_
          exact hj45 _ _ _ _ _ h
      refine gw_icmp_eq 66 75 hC dX8_spilt_66 (by decide) (fun c49 => ?_) (fun c49 => ?_)
      · replace h := if_t h c49
        refine gw_sub [1, 2, 3, 0] rfl ?_
        exact hj48 _ _ _ _ h
      · replace h := if_f h c49
        refine gw_iload 69 0 hC dX8_spilt_69 rfl ?_
        refine gw_iload_n 71 4 hC dX8_spilt_71 rfl ?_
        refine gw_icmp_ge 72 95 hC dX8_spilt_72 (by decide) (fun c50 => ?_) (fun c50 => ?_)
        · replace h := if_t h c50
          refine gw_sub [1, 2, 3, 4, 5] rfl ?_
          exact hj35 _ _ _ _ _ h
        · replace h := if_f h c50
          refine gw_sub [1, 2, 3, 0] rfl ?_
          exact hj48 _ _ _ _ h
theorem met_spilt {D : MD} {o : Nat} {a1 : Int} {s0 : MS} {res : Int × MS} (h : m_spilt a1 s0 = some res) (l : Launch) : GMet l yX8_spilt cX8_spilt 7 (some .int) 6 (MRp D o) (MK D) (mAd o) [.ref o, J a1] s0 1 res := by
  refine GMet.of [(0, .ref o), (1, J a1)] (by decide) (MK_moved D) (Nat.le_of_ble_eq_true rfl) rfl ?_
  intro p e s m args below meth c hC
  have hC : GC p s m args meth c cX8_spilt RX8 7 (some .int) (MK D) := hC
  unfold m_spilt at h
  refine gw_aload_n 0 0 hC dX8_spilt_0 rfl ?_
  refine mg_46 1 hC dX8_spilt_1 ?_
  refine gw_if_eq 4 20 hC dX8_spilt_4 (by decide) (fun c2 => ?_) (fun c2 => ?_)
  · replace h := if_t h c2
    refine gw_iconst 20 hC dX8_spilt_20 ?_
    exact gw_iret 21 hC dX8_spilt_21 h
  · replace h := if_f h c2
    refine gw_iload_n 7 1 hC dX8_spilt_7 rfl ?_
    refine gw_iconst 8 hC dX8_spilt_8 ?_
    obtain ⟨j56, ej56, h⟩ := bnd_e h
    have hj56 : ∀ (x1_3 : Int) (s4 : MS), j56 x1_3 s4 = some res → GW p l e (rmd 6) s m args below meth c 7 (mAd o) (MRp D o) (MK D) 1 res s4 22 [(0, .ref o), (1, J x1_3)] [] := by
      clear h
      intro x1_3 s4 h
      subst ej56
      refine gw_aload_n 22 0 hC dX8_spilt_22 rfl ?_
      obtain ⟨z5, ez5, h⟩ := opt_e h
      refine gw_callV (As := []) (rest := []) (st' := [J z5.1]) 23 0 hC (met_sayingMany ez5 l) (lw_V q2278 q2280 qs96 q161 q2281) (by decide +kernel) (by decide) (m_recv hC) rfl rfl (Nat.le_of_ble_eq_true rfl) dX8_spilt_23 rfl ?_
      refine gw_if_ne 26 31 hC dX8_spilt_26 (by decide) (fun c6 => ?_) (fun c6 => ?_)
      · replace h := if_f h c6
        refine gw_aload_n 31 0 hC dX8_spilt_31 rfl ?_
        obtain ⟨z7, ez7, h⟩ := opt_e h
        refine gw_callV (As := []) (rest := []) (st' := []) 32 0 hC (met_laysPairs ez7 l) (lw_V q2304 q2306 qs100 q161 q2307) (by decide +kernel) (by decide) (m_recv hC) rfl rfl (Nat.le_of_ble_eq_true rfl) dX8_spilt_32 rfl ?_
        refine gw_aload_n 35 0 hC dX8_spilt_35 rfl ?_
        obtain ⟨z8, ez8, h⟩ := opt_e h
        refine gw_callV (As := []) (rest := []) (st' := [J z8.1]) 36 0 hC (met_sack ez8 l) (lw_V q2263 q2265 qs93 q161 q2266) (by decide +kernel) (by decide) (m_recv hC) rfl rfl (Nat.le_of_ble_eq_true rfl) dX8_spilt_36 rfl ?_
        obtain ⟨x2_9, ex2_9, h⟩ := bnd_e h
        refine gw_istore_n 39 [(2, J x2_9), (0, .ref o), (1, J x1_3)] hC dX8_spilt_39 (by decide) ex2_9 rfl ?_
        refine gw_iconst 40 hC dX8_spilt_40 ?_
        obtain ⟨x3_10, ex3_10, h⟩ := bnd_e h
        refine gw_istore_n 41 [(3, J x3_10), (2, J x2_9), (0, .ref o), (1, J x1_3)] hC dX8_spilt_41 (by decide) ex3_10 rfl ?_
        refine gw_iconst 42 hC dX8_spilt_42 ?_
        obtain ⟨x4_11, ex4_11, h⟩ := bnd_e h
        refine gw_istore 43 [(4, J x4_11), (3, J x3_10), (2, J x2_9), (0, .ref o), (1, J x1_3)] hC dX8_spilt_43 (by decide) ex4_11 rfl ?_
        refine gw_aload_n 45 3 hC dX8_spilt_45 rfl ?_
        refine gw_iload_n 46 2 hC dX8_spilt_46 rfl ?_
        refine gw_iconst 47 hC dX8_spilt_47 ?_
        obtain ⟨z12, ez12, h⟩ := opt_e h
        refine gw_callV (As := [J x2_9, J 0]) (rest := []) (st' := [J z12.1]) 48 2 hC (met_isFirstRow ez12 l) (lw_V q2353 q2355 qs110 q161 q2356) (by decide +kernel) (by decide) (m_recv hC) rfl rfl (Nat.le_of_ble_eq_true rfl) dX8_spilt_48 rfl ?_
        obtain ⟨x5_13, ex5_13, h⟩ := bnd_e h
        refine gw_istore 51 [(5, J x5_13), (4, J x4_11), (3, J x3_10), (2, J x2_9), (0, .ref o), (1, J x1_3)] hC dX8_spilt_51 (by decide) ex5_13 rfl ?_
        refine gw_sub [4, 5, 3, 2, 1, 0] rfl ?_
        refine wm_spilt_L53 hC (fun x1_51 x3_52 x4_53 s54 h => ?_) FU _ _ _ _ _ _ h
        · refine gw_iload_n 112 0 hC dX8_spilt_112 rfl ?_
          refine gw_iconst 113 hC dX8_spilt_113 ?_
          refine gw_icmp_ne 114 121 hC dX8_spilt_114 (by decide) (fun c55 => ?_) (fun c55 => ?_)
          · replace h := if_f h c55
            refine gw_iload 121 2 hC dX8_spilt_121 rfl ?_
            exact gw_iret 123 hC dX8_spilt_123 h
          · replace h := if_t h c55
            refine gw_iload_n 117 1 hC dX8_spilt_117 rfl ?_
            refine gw_goto 118 123 hC dX8_spilt_118 (by decide) ?_
            exact gw_iret 123 hC dX8_spilt_123 h
      · replace h := if_t h c6
        refine gw_iconst 29 hC dX8_spilt_29 ?_
        exact gw_iret 30 hC dX8_spilt_30 h
    refine gw_icmp_eq 9 22 hC dX8_spilt_9 (by decide) (fun c57 => ?_) (fun c57 => ?_)
    · replace h := if_t h c57
      refine gw_sub [0, 1] rfl ?_
      exact hj56 _ _ h
    · replace h := if_f h c57
      refine gw_aload_n 12 0 hC dX8_spilt_12 rfl ?_
      refine gw_iload_n 13 1 hC dX8_spilt_13 rfl ?_
      obtain ⟨z58, ez58, h⟩ := opt_e h
      refine gw_callV (As := [J a1]) (rest := []) (st' := [J z58.1]) 14 1 hC (met_isSaying ez58 l) (lw_V q2295 q2297 qs98 q161 q2298) (by decide +kernel) (by decide) (m_recv hC) rfl rfl (Nat.le_of_ble_eq_true rfl) dX8_spilt_14 rfl ?_
      refine gw_if_ne 17 22 hC dX8_spilt_17 (by decide) (fun c59 => ?_) (fun c59 => ?_)
      · replace h := if_f h c59
        refine gw_sub [0, 1] rfl ?_
        exact hj56 _ _ h
      · replace h := if_t h c59
        refine gw_iconst 20 hC dX8_spilt_20 ?_
        exact gw_iret 21 hC dX8_spilt_21 h
/-! moreBy(IIII)J -/
noncomputable def m_moreBy (a1 : Int) (a2 : Int) (a3 : Int) (a4 : Int) (s0 : MS) : Option (Int × MS) :=
  Option.bind (m_bits a1 s0) fun z5 =>
  if i32 (irem z5.1 2) = 0 then
    gd (ok 42 ((7 * a3) + a2)) <|
    gd (ok 128 (ior a1 (ishl 1 a2))) <|
    some (((z5.2 51 (i32 ((7 * a3) + a2))) + (z5.2 63 (i32 (ior a1 (ishl 1 a2))))), z5.2)
  else
    gd (ok 128 (ior a1 (ishl 1 a2))) <|
    gd (ok 42 ((7 * a4) + a2)) <|
    some (((z5.2 63 (i32 (ior a1 (ishl 1 a2)))) - (z5.2 51 (i32 ((7 * a4) + a2)))), z5.2)
theorem met_moreBy {D : MD} {o : Nat} {a1 : Int} {a2 : Int} {a3 : Int} {a4 : Int} {s0 : MS} {res : Int × MS} (h : m_moreBy a1 a2 a3 a4 s0 = some res) (l : Launch) : GMet l yX8_moreBy cX8_moreBy 5 (some .long) 2 (MRp D o) (MK D) (mAd o) [.ref o, J a1, J a2, J a3, J a4] s0 2 res := by
  refine GMet.of [(0, .ref o), (1, J a1), (2, J a2), (3, J a3), (4, J a4)] (by decide) (MK_moved D) (Nat.le_of_ble_eq_true rfl) rfl ?_
  intro p e s m args below meth c hC
  have hC : GC p s m args meth c cX8_moreBy RX8 5 (some .long) (MK D) := hC
  unfold m_moreBy at h
  refine gw_iload_n 0 1 hC dX8_moreBy_0 rfl ?_
  obtain ⟨z5, ez5, h⟩ := opt_e h
  refine gw_callS (As := [J a1]) (rest := []) (st' := [J z5.1]) 1 1 hC (met_bits ez5 l) (lw_S q2271 q2272 q161 q2273) (by decide +kernel) (by decide) rfl rfl (Nat.le_of_ble_eq_true rfl) dX8_moreBy_1 rfl ?_
  refine gw_iconst 4 hC dX8_moreBy_4 ?_
  refine gw_irem 5 hC dX8_moreBy_5 (by decide) ?_
  refine gw_if_ne 6 34 hC dX8_moreBy_6 (by decide) (fun c6 => ?_) (fun c6 => ?_)
  · replace h := if_f h c6
    refine gw_aload_n 34 0 hC dX8_moreBy_34 rfl ?_
    refine mg_63 35 hC dX8_moreBy_35 ?_
    refine gw_iload_n 38 1 hC dX8_moreBy_38 rfl ?_
    refine gw_iconst 39 hC dX8_moreBy_39 ?_
    refine gw_iload_n 40 2 hC dX8_moreBy_40 rfl ?_
    refine gw_ishl 41 hC dX8_moreBy_41 ?_
    refine gw_ior 42 hC dX8_moreBy_42 ?_
    obtain ⟨g7, h⟩ := gd_e h
    refine m_lald 43 63 hC (by decide) rfl g7 dX8_moreBy_43 ?_
    refine gw_aload_n 44 0 hC dX8_moreBy_44 rfl ?_
    refine mg_51 45 hC dX8_moreBy_45 ?_
    refine gw_bipush 48 hC dX8_moreBy_48 (by decide) ?_
    refine gw_iload 50 4 hC dX8_moreBy_50 rfl ?_
    refine gw_imul 52 hC dX8_moreBy_52 ?_
    refine gw_iload_n 53 2 hC dX8_moreBy_53 rfl ?_
    refine gw_iadd 54 hC dX8_moreBy_54 ?_
    obtain ⟨g8, h⟩ := gd_e h
    refine m_lald 55 51 hC (by decide) rfl g8 dX8_moreBy_55 ?_
    refine gw_lsub 56 hC dX8_moreBy_56 ?_
    exact gw_lret 57 hC dX8_moreBy_57 h
  · replace h := if_t h c6
    refine gw_aload_n 9 0 hC dX8_moreBy_9 rfl ?_
    refine mg_51 10 hC dX8_moreBy_10 ?_
    refine gw_bipush 13 hC dX8_moreBy_13 (by decide) ?_
    refine gw_iload_n 15 3 hC dX8_moreBy_15 rfl ?_
    refine gw_imul 16 hC dX8_moreBy_16 ?_
    refine gw_iload_n 17 2 hC dX8_moreBy_17 rfl ?_
    refine gw_iadd 18 hC dX8_moreBy_18 ?_
    obtain ⟨g9, h⟩ := gd_e h
    refine m_lald 19 51 hC (by decide) rfl g9 dX8_moreBy_19 ?_
    refine gw_aload_n 20 0 hC dX8_moreBy_20 rfl ?_
    refine mg_63 21 hC dX8_moreBy_21 ?_
    refine gw_iload_n 24 1 hC dX8_moreBy_24 rfl ?_
    refine gw_iconst 25 hC dX8_moreBy_25 ?_
    refine gw_iload_n 26 2 hC dX8_moreBy_26 rfl ?_
    refine gw_ishl 27 hC dX8_moreBy_27 ?_
    refine gw_ior 28 hC dX8_moreBy_28 ?_
    obtain ⟨g10, h⟩ := gd_e h
    refine m_lald 29 63 hC (by decide) rfl g10 dX8_moreBy_29 ?_
    refine gw_ladd 30 hC dX8_moreBy_30 ?_
    refine gw_goto 31 57 hC dX8_moreBy_31 (by decide) ?_
    exact gw_lret 57 hC dX8_moreBy_57 h
/-! bestTurn(IIII)I -/
noncomputable def m_bestTurn_L6 (k112 : Int → MS → Option (Int × MS)) : Nat → Int → Int → Int → Int → Int → Int → MS → Option (Int × MS)
  | 0, _, _, _, _, _, _, _ => none
  | n + 1, x1_7, x2_8, x3_9, x4_10, x5_11, x6_12, s13 =>
    Option.bind (m_verbMany s13) fun z16 =>
    if i32 z16.1 ≤ i32 x6_12 then
      k112 x5_11 z16.2
    else
      bnd (fun (x1_18 : Int) (x2_19 : Int) (x3_20 : Int) (x4_21 : Int) (x5_22 : Int) (x6_23 : Int) (s24 : MS) =>
          bnd (x6_23 + 1) fun x6_25 =>
          m_bestTurn_L6 k112 n x1_18 x2_19 x3_20 x4_21 x5_22 x6_25 s24) fun j26 =>
      if i32 (iand (ishr x2_8 x6_12) 1) = 0 then
        j26 x1_7 x2_8 x3_9 x4_10 x5_11 x6_12 z16.2
      else
        if i32 (iand (ishr x1_7 x6_12) 1) = i32 1 then
          j26 x1_7 x2_8 x3_9 x4_10 x5_11 x6_12 z16.2
        else
          if i32 x5_11 = i32 (-1) then
            j26 x1_7 x2_8 x3_9 x4_10 x6_12 x6_12 z16.2
          else
            Option.bind (m_moreBy x1_7 x6_12 x3_9 x4_10 z16.2) fun z30 =>
            bnd z30.1 fun x7_31 =>
            Option.bind (m_moreBy x1_7 x5_11 x3_9 x4_10 z30.2) fun z32 =>
            bnd z32.1 fun x9_33 =>
            Option.bind (m_bits x1_7 z32.2) fun z34 =>
            bnd (fun (x1_35 : Int) (x2_36 : Int) (x3_37 : Int) (x4_38 : Int) (x6_39 : Int) (s40 : MS) =>
                j26 x1_35 x2_36 x3_37 x4_38 x6_39 x6_39 s40) fun j41 =>
            if i32 (irem z34.1 2) = 0 then
              if i64 x7_31 ≤ i64 x9_33 then
                j26 x1_7 x2_8 x3_9 x4_10 x5_11 x6_12 z34.2
              else
                j41 x1_7 x2_8 x3_9 x4_10 x6_12 z34.2
            else
              if i64 x9_33 ≤ i64 x7_31 then
                j26 x1_7 x2_8 x3_9 x4_10 x5_11 x6_12 z34.2
              else
                j41 x1_7 x2_8 x3_9 x4_10 x6_12 z34.2
noncomputable def m_bestTurn (a1 : Int) (a2 : Int) (a3 : Int) (a4 : Int) (s0 : MS) : Option (Int × MS) :=
  bnd (-1) fun x5_5 =>
  bnd 0 fun x6_6 =>
  m_bestTurn_L6
    (fun (x5_45 : Int) (s46 : MS) =>
      some (x5_45, s46))
    FU a1 a2 a3 a4 x5_5 x6_6 s0
theorem wm_bestTurn_L6 {p : Program} {l : Launch} {e : Env} {s : State} {m : MethodId} {args : Array Value} {below : List Frame} {meth : Method} {c : Code} {D : MD} {o : Nat} {res : Int × MS} {k112 : Int → MS → Option (Int × MS)} (hC : GC p s m args meth c cX8_bestTurn RX8 11 (some .int) (MK D)) (hk112 : ∀ (x5_14 : Int) (s15 : MS), k112 x5_14 s15 = some res → GW p l e (rmd 3) s m args below meth c 11 (mAd o) (MRp D o) (MK D) 1 res s15 112 [(5, J x5_14)] []) : ∀ (n : Nat) (x1_7 : Int) (x2_8 : Int) (x3_9 : Int) (x4_10 : Int) (x5_11 : Int) (x6_12 : Int) (s13 : MS), m_bestTurn_L6 k112 n x1_7 x2_8 x3_9 x4_10 x5_11 x6_12 s13 = some res → GW p l e (rmd 3) s m args below meth c 11 (mAd o) (MRp D o) (MK D) 1 res s13 6 [(0, .ref o), (1, J x1_7), (2, J x2_8), (3, J x3_9), (4, J x4_10), (5, J x5_11), (6, J x6_12)] [] := by
  intro n
  induction n with
  | zero =>
    intro x1_7 x2_8 x3_9 x4_10 x5_11 x6_12 s13 h
    cases h
  | succ n ih =>
    intro x1_7 x2_8 x3_9 x4_10 x5_11 x6_12 s13 h
    rw [m_bestTurn_L6] at h
    refine gw_iload 6 6 hC dX8_bestTurn_6 rfl ?_
    refine gw_aload_n 8 0 hC dX8_bestTurn_8 rfl ?_
    obtain ⟨z16, ez16, h⟩ := opt_e h
    refine gw_callV (As := []) (rest := [J x6_12]) (st' := [J z16.1, J x6_12]) 9 0 hC (met_verbMany ez16 l) (lw_V q2259 q2261 qs92 q161 q2262) (by decide +kernel) (by decide) (m_recv hC) rfl rfl (Nat.le_of_ble_eq_true rfl) dX8_bestTurn_9 rfl ?_
    refine gw_icmp_ge 12 112 hC dX8_bestTurn_12 (by decide) (fun c17 => ?_) (fun c17 => ?_)
    · replace h := if_t h c17
      refine gw_sub [5] rfl ?_
      exact hk112 _ _ h
    · replace h := if_f h c17
      refine gw_iload_n 15 2 hC dX8_bestTurn_15 rfl ?_
      refine gw_iload 16 6 hC dX8_bestTurn_16 rfl ?_
      refine gw_ishr 18 hC dX8_bestTurn_18 ?_
      refine gw_iconst 19 hC dX8_bestTurn_19 ?_
      refine gw_iand 20 hC dX8_bestTurn_20 ?_
      obtain ⟨j26, ej26, h⟩ := bnd_e h
      have hj26 : ∀ (x1_18 : Int) (x2_19 : Int) (x3_20 : Int) (x4_21 : Int) (x5_22 : Int) (x6_23 : Int) (s24 : MS), j26 x1_18 x2_19 x3_20 x4_21 x5_22 x6_23 s24 = some res → GW p l e (rmd 3) s m args below meth c 11 (mAd o) (MRp D o) (MK D) 1 res s24 106 [(0, .ref o), (1, J x1_18), (2, J x2_19), (3, J x3_20), (4, J x4_21), (5, J x5_22), (6, J x6_23)] [] := by
        clear h
        intro x1_18 x2_19 x3_20 x4_21 x5_22 x6_23 s24 h
        subst ej26
        obtain ⟨x6_25, ex6_25, h⟩ := bnd_e h
        refine gw_iinc 106 6 [(6, J x6_25), (0, .ref o), (1, J x1_18), (2, J x2_19), (3, J x3_20), (4, J x4_21), (5, J x5_22)] hC dX8_bestTurn_106 rfl ex6_25 (by decide) rfl ?_
        refine gw_goto 109 6 hC dX8_bestTurn_109 (by decide) ?_
        refine gw_sub [1, 2, 3, 4, 5, 6, 0] rfl ?_
        exact ih _ _ _ _ _ _ _ h
      refine gw_if_eq 21 106 hC dX8_bestTurn_21 (by decide) (fun c27 => ?_) (fun c27 => ?_)
      · replace h := if_t h c27
        refine gw_sub [0, 1, 2, 3, 4, 5, 6] rfl ?_
        exact hj26 _ _ _ _ _ _ _ h
      · replace h := if_f h c27
        refine gw_iload_n 24 1 hC dX8_bestTurn_24 rfl ?_
        refine gw_iload 25 6 hC dX8_bestTurn_25 rfl ?_
        refine gw_ishr 27 hC dX8_bestTurn_27 ?_
        refine gw_iconst 28 hC dX8_bestTurn_28 ?_
        refine gw_iand 29 hC dX8_bestTurn_29 ?_
        refine gw_iconst 30 hC dX8_bestTurn_30 ?_
        refine gw_icmp_ne 31 37 hC dX8_bestTurn_31 (by decide) (fun c28 => ?_) (fun c28 => ?_)
        · replace h := if_f h c28
          refine gw_iload 37 5 hC dX8_bestTurn_37 rfl ?_
          refine gw_iconst 39 hC dX8_bestTurn_39 ?_
          refine gw_icmp_ne 40 50 hC dX8_bestTurn_40 (by decide) (fun c29 => ?_) (fun c29 => ?_)
          · replace h := if_f h c29
            refine gw_aload_n 50 0 hC dX8_bestTurn_50 rfl ?_
            refine gw_iload_n 51 1 hC dX8_bestTurn_51 rfl ?_
            refine gw_iload 52 6 hC dX8_bestTurn_52 rfl ?_
            refine gw_iload_n 54 3 hC dX8_bestTurn_54 rfl ?_
            refine gw_iload 55 4 hC dX8_bestTurn_55 rfl ?_
            obtain ⟨z30, ez30, h⟩ := opt_e h
            refine gw_callV (As := [J x1_7, J x6_12, J x3_9, J x4_10]) (rest := []) (st' := [Lg z30.1]) 57 4 hC (met_moreBy ez30 l) (lw_V q2438 q2440 qs121 q161 q2441) (by decide +kernel) (by decide) (m_recv hC) rfl rfl (Nat.le_of_ble_eq_true rfl) dX8_bestTurn_57 rfl ?_
            obtain ⟨x7_31, ex7_31, h⟩ := bnd_e h
            refine gw_lstore 60 [(7, Lg x7_31), (0, .ref o), (1, J x1_7), (2, J x2_8), (3, J x3_9), (4, J x4_10), (5, J x5_11), (6, J x6_12)] hC dX8_bestTurn_60 (by decide) ex7_31 rfl ?_
            refine gw_aload_n 62 1 hC dX8_bestTurn_62 rfl ?_
            refine gw_iload_n 63 2 hC dX8_bestTurn_63 rfl ?_
            refine gw_iload 64 6 hC dX8_bestTurn_64 rfl ?_
            refine gw_iload_n 66 4 hC dX8_bestTurn_66 rfl ?_
            refine gw_iload 67 5 hC dX8_bestTurn_67 rfl ?_
            obtain ⟨z32, ez32, h⟩ := opt_e h
            refine gw_callV (As := [J x1_7, J x5_11, J x3_9, J x4_10]) (rest := []) (st' := [Lg z32.1]) 69 4 hC (met_moreBy ez32 l) (lw_V q2438 q2440 qs121 q161 q2441) (by decide +kernel) (by decide) (m_recv hC) rfl rfl (Nat.le_of_ble_eq_true rfl) dX8_bestTurn_69 rfl ?_
            obtain ⟨x9_33, ex9_33, h⟩ := bnd_e h
            refine gw_lstore 72 [(9, Lg x9_33), (7, Lg x7_31), (0, .ref o), (1, J x1_7), (2, J x2_8), (3, J x3_9), (4, J x4_10), (5, J x5_11), (6, J x6_12)] hC dX8_bestTurn_72 (by decide) ex9_33 rfl ?_
            refine gw_iload_n 74 3 hC dX8_bestTurn_74 rfl ?_
            obtain ⟨z34, ez34, h⟩ := opt_e h
            refine gw_callS (As := [J x1_7]) (rest := []) (st' := [J z34.1]) 75 1 hC (met_bits ez34 l) (lw_S q2271 q2272 q161 q2273) (by decide +kernel) (by decide) rfl rfl (Nat.le_of_ble_eq_true rfl) dX8_bestTurn_75 rfl ?_
            refine gw_iconst 78 hC dX8_bestTurn_78 ?_
            refine gw_irem 79 hC dX8_bestTurn_79 (by decide) ?_
            obtain ⟨j41, ej41, h⟩ := bnd_e h
            have hj41 : ∀ (x1_35 : Int) (x2_36 : Int) (x3_37 : Int) (x4_38 : Int) (x6_39 : Int) (s40 : MS), j41 x1_35 x2_36 x3_37 x4_38 x6_39 s40 = some res → GW p l e (rmd 3) s m args below meth c 11 (mAd o) (MRp D o) (MK D) 1 res s40 102 [(0, .ref o), (1, J x1_35), (2, J x2_36), (3, J x3_37), (4, J x4_38), (6, J x6_39)] [] := by
              clear h
              intro x1_35 x2_36 x3_37 x4_38 x6_39 s40 h
              subst ej41
              refine gw_iload 102 5 hC dX8_bestTurn_102 rfl ?_
              refine gw_istore 104 [(5, J x6_39), (0, .ref o), (1, J x1_35), (2, J x2_36), (3, J x3_37), (4, J x4_38), (6, J x6_39)] hC dX8_bestTurn_104 (by decide) rfl rfl ?_
              refine gw_sub [1, 2, 3, 4, 5, 0, 6] rfl ?_
              exact hj26 _ _ _ _ _ _ _ h
            refine gw_if_ne 80 94 hC dX8_bestTurn_80 (by decide) (fun c42 => ?_) (fun c42 => ?_)
            · replace h := if_f h c42
              refine gw_lload 94 1 hC dX8_bestTurn_94 rfl ?_
              refine gw_lload 96 0 hC dX8_bestTurn_96 rfl ?_
              refine gw_lcmp_ge 98 106 hC dX8_bestTurn_98 dX8_bestTurn_99 (by decide) (fun c43 => ?_) (fun c43 => ?_)
              · replace h := if_t h c43
                refine gw_sub [2, 3, 4, 5, 6, 7, 8] rfl ?_
                exact hj26 _ _ _ _ _ _ _ h
              · replace h := if_f h c43
                refine gw_sub [2, 3, 4, 5, 6, 8] rfl ?_
                exact hj41 _ _ _ _ _ _ h
            · replace h := if_t h c42
              refine gw_lload 83 1 hC dX8_bestTurn_83 rfl ?_
              refine gw_lload 85 0 hC dX8_bestTurn_85 rfl ?_
              refine gw_lcmp_le 87 106 hC dX8_bestTurn_87 dX8_bestTurn_88 (by decide) (fun c44 => ?_) (fun c44 => ?_)
              · replace h := if_t h c44
                refine gw_sub [2, 3, 4, 5, 6, 7, 8] rfl ?_
                exact hj26 _ _ _ _ _ _ _ h
              · replace h := if_f h c44
                refine gw_goto 91 102 hC dX8_bestTurn_91 (by decide) ?_
                refine gw_sub [2, 3, 4, 5, 6, 8] rfl ?_
                exact hj41 _ _ _ _ _ _ h
          · replace h := if_t h c29
            refine gw_iload 43 6 hC dX8_bestTurn_43 rfl ?_
            refine gw_istore 45 [(5, J x6_12), (0, .ref o), (1, J x1_7), (2, J x2_8), (3, J x3_9), (4, J x4_10), (6, J x6_12)] hC dX8_bestTurn_45 (by decide) rfl rfl ?_
            refine gw_goto 47 106 hC dX8_bestTurn_47 (by decide) ?_
            refine gw_sub [1, 2, 3, 4, 5, 0, 6] rfl ?_
            exact hj26 _ _ _ _ _ _ _ h
        · replace h := if_t h c28
          refine gw_goto 34 106 hC dX8_bestTurn_34 (by decide) ?_
          refine gw_sub [0, 1, 2, 3, 4, 5, 6] rfl ?_
          exact hj26 _ _ _ _ _ _ _ h
theorem met_bestTurn {D : MD} {o : Nat} {a1 : Int} {a2 : Int} {a3 : Int} {a4 : Int} {s0 : MS} {res : Int × MS} (h : m_bestTurn a1 a2 a3 a4 s0 = some res) (l : Launch) : GMet l yX8_bestTurn cX8_bestTurn 11 (some .int) 3 (MRp D o) (MK D) (mAd o) [.ref o, J a1, J a2, J a3, J a4] s0 1 res := by
  refine GMet.of [(0, .ref o), (1, J a1), (2, J a2), (3, J a3), (4, J a4)] (by decide) (MK_moved D) (Nat.le_of_ble_eq_true rfl) rfl ?_
  intro p e s m args below meth c hC
  have hC : GC p s m args meth c cX8_bestTurn RX8 11 (some .int) (MK D) := hC
  unfold m_bestTurn at h
  refine gw_iconst 0 hC dX8_bestTurn_0 ?_
  obtain ⟨x5_5, ex5_5, h⟩ := bnd_e h
  refine gw_istore 1 [(5, J x5_5), (0, .ref o), (1, J a1), (2, J a2), (3, J a3), (4, J a4)] hC dX8_bestTurn_1 (by decide) ex5_5 rfl ?_
  refine gw_iconst 3 hC dX8_bestTurn_3 ?_
  obtain ⟨x6_6, ex6_6, h⟩ := bnd_e h
  refine gw_istore 4 [(6, J x6_6), (5, J x5_5), (0, .ref o), (1, J a1), (2, J a2), (3, J a3), (4, J a4)] hC dX8_bestTurn_4 (by decide) ex6_6 rfl ?_
  refine gw_sub [2, 3, 4, 5, 6, 1, 0] rfl ?_
  refine wm_bestTurn_L6 hC (fun x5_45 s46 h => ?_) FU _ _ _ _ _ _ _ h
  · refine gw_iload 112 0 hC dX8_bestTurn_112 rfl ?_
    exact gw_iret 114 hC dX8_bestTurn_114 h
/-! choose(III)J -/
noncomputable def m_choose_L55 (k129 : Int → Int → Int → Int → MS → Option (Int × MS)) : Nat → Int → Int → Int → Int → Int → MS → Option (Int × MS)
  | 0, _, _, _, _, _, _ => none
  | n + 1, x1_16, x2_17, x3_18, x4_19, x5_20, s21 =>
    if i32 x5_20 < 0 then
      k129 x1_16 x2_17 x3_18 x4_19 s21
    else
      gd (ok 128 x5_20) <|
      bnd (up s21 63 (i32 x5_20) 0) fun s29 =>
      bnd (fun (x1_30 : Int) (x2_31 : Int) (x3_32 : Int) (x4_33 : Int) (x5_34 : Int) (s35 : MS) =>
          bnd (x5_34 + (-1)) fun x5_36 =>
          m_choose_L55 k129 n x1_30 x2_31 x3_32 x4_33 x5_36 s35) fun j37 =>
      if i32 (iand x5_20 (ixor x4_19 (-1))) = 0 then
        Option.bind (m_bits x5_20 s29) fun z39 =>
        if i32 6 ≤ i32 z39.1 then
          j37 x1_16 x2_17 x3_18 x4_19 x5_20 z39.2
        else
          if i32 x5_20 = i32 x4_19 then
            j37 x1_16 x2_17 x3_18 x4_19 x5_20 z39.2
          else
            Option.bind (m_bestTurn x5_20 x4_19 x1_16 x2_17 z39.2) fun z42 =>
            Option.bind (m_moreBy x5_20 z42.1 x1_16 x2_17 z42.2) fun z43 =>
            gd (ok 128 x5_20) <|
            bnd (up z43.2 63 (i32 x5_20) z43.1) fun s45 =>
            j37 x1_16 x2_17 x3_18 x4_19 x5_20 s45
      else
        j37 x1_16 x2_17 x3_18 x4_19 x5_20 s29
noncomputable def m_choose (a1 : Int) (a2 : Int) (a3 : Int) (s0 : MS) : Option (Int × MS) :=
  Option.bind (m_isSaying a1 s0) fun z4 =>
  if i32 z4.1 = 0 then
    some ((-1000000000000000), z4.2)
  else
    Option.bind (m_isSaying a2 z4.2) fun z6 =>
    if i32 z6.1 = 0 then
      some ((-1000000000000000), z6.2)
    else
      if i32 a1 = i32 a2 then
        some ((-1000000000000000), z6.2)
      else
        Option.bind (m_isIn (i32 a3) 0 1 z6.2) fun z9 =>
        if i32 z9.1 = 0 then
          some ((-1000000000000000), z9.2)
        else
          Option.bind (m_laysPairs z9.2) fun z11 =>
          Option.bind (m_sack z11.2) fun z12 =>
          bnd z12.1 fun x4_13 =>
          Option.bind (m_verbMany z12.2) fun z14 =>
          bnd ((ishl 1 z14.1) - 1) fun x5_15 =>
          m_choose_L55
            (fun (x1_46 : Int) (x2_47 : Int) (x3_48 : Int) (x4_49 : Int) (s50 : MS) =>
              if i32 x3_48 = 0 then
                gd (ok 128 0) <|
                some ((s50 63 (i32 0)), s50)
              else
                Option.bind (m_bestTurn 0 x4_49 x1_46 x2_47 s50) fun z52 =>
                some ((i32 z52.1), z52.2))
            FU a1 a2 a3 x4_13 x5_15 z14.2
theorem wm_choose_L55 {p : Program} {l : Launch} {e : Env} {s : State} {m : MethodId} {args : Array Value} {below : List Frame} {meth : Method} {c : Code} {D : MD} {o : Nat} {res : Int × MS} {k129 : Int → Int → Int → Int → MS → Option (Int × MS)} (hC : GC p s m args meth c cX8_choose RX8 6 (some .long) (MK D)) (hk129 : ∀ (x1_22 : Int) (x2_23 : Int) (x3_24 : Int) (x4_25 : Int) (s26 : MS), k129 x1_22 x2_23 x3_24 x4_25 s26 = some res → GW p l e (rmd 6) s m args below meth c 6 (mAd o) (MRp D o) (MK D) 2 res s26 129 [(0, .ref o), (1, J x1_22), (2, J x2_23), (3, J x3_24), (4, J x4_25)] []) : ∀ (n : Nat) (x1_16 : Int) (x2_17 : Int) (x3_18 : Int) (x4_19 : Int) (x5_20 : Int) (s21 : MS), m_choose_L55 k129 n x1_16 x2_17 x3_18 x4_19 x5_20 s21 = some res → GW p l e (rmd 6) s m args below meth c 6 (mAd o) (MRp D o) (MK D) 2 res s21 55 [(0, .ref o), (1, J x1_16), (2, J x2_17), (3, J x3_18), (4, J x4_19), (5, J x5_20)] [] := by
  intro n
  induction n with
  | zero =>
    intro x1_16 x2_17 x3_18 x4_19 x5_20 s21 h
    cases h
  | succ n ih =>
    intro x1_16 x2_17 x3_18 x4_19 x5_20 s21 h
    rw [m_choose_L55] at h
    refine gw_iload 55 5 hC dX8_choose_55 rfl ?_
    refine gw_if_lt 57 129 hC dX8_choose_57 (by decide) (fun c27 => ?_) (fun c27 => ?_)
    · replace h := if_t h c27
      refine gw_sub [0, 1, 2, 3, 4] rfl ?_
      exact hk129 _ _ _ _ _ h
    · replace h := if_f h c27
      refine gw_aload_n 60 0 hC dX8_choose_60 rfl ?_
      refine mg_63 61 hC dX8_choose_61 ?_
      refine gw_iload 64 5 hC dX8_choose_64 rfl ?_
      refine gw_lconst (v := 0) 66 hC dX8_choose_66 (by decide) ?_
      obtain ⟨g28, h⟩ := gd_e h
      obtain ⟨s29, es29, h⟩ := bnd_e h
      refine m_last 67 63 hC (MIn_self o) (by decide) rfl g28 es29 dX8_choose_67 ?_
      refine gw_iload 68 5 hC dX8_choose_68 rfl ?_
      refine gw_iload 70 4 hC dX8_choose_70 rfl ?_
      refine gw_iconst 72 hC dX8_choose_72 ?_
      refine gw_ixor 73 hC dX8_choose_73 ?_
      refine gw_iand 74 hC dX8_choose_74 ?_
      obtain ⟨j37, ej37, h⟩ := bnd_e h
      have hj37 : ∀ (x1_30 : Int) (x2_31 : Int) (x3_32 : Int) (x4_33 : Int) (x5_34 : Int) (s35 : MS), j37 x1_30 x2_31 x3_32 x4_33 x5_34 s35 = some res → GW p l e (rmd 6) s m args below meth c 6 (mAd o) (MRp D o) (MK D) 2 res s35 123 [(0, .ref o), (1, J x1_30), (2, J x2_31), (3, J x3_32), (4, J x4_33), (5, J x5_34)] [] := by
        clear h
        intro x1_30 x2_31 x3_32 x4_33 x5_34 s35 h
        subst ej37
        obtain ⟨x5_36, ex5_36, h⟩ := bnd_e h
        refine gw_iinc 123 5 [(5, J x5_36), (0, .ref o), (1, J x1_30), (2, J x2_31), (3, J x3_32), (4, J x4_33)] hC dX8_choose_123 rfl ex5_36 (by decide) rfl ?_
        refine gw_goto 126 55 hC dX8_choose_126 (by decide) ?_
        refine gw_sub [1, 2, 3, 4, 5, 0] rfl ?_
        exact ih _ _ _ _ _ _ h
      refine gw_if_ne 75 123 hC dX8_choose_75 (by decide) (fun c38 => ?_) (fun c38 => ?_)
      · replace h := if_f h c38
        refine gw_sub [0, 1, 2, 3, 4, 5] rfl ?_
        exact hj37 _ _ _ _ _ _ h
      · replace h := if_t h c38
        refine gw_iload 78 5 hC dX8_choose_78 rfl ?_
        obtain ⟨z39, ez39, h⟩ := opt_e h
        refine gw_callS (As := [J x5_20]) (rest := []) (st' := [J z39.1]) 80 1 hC (met_bits ez39 l) (lw_S q2271 q2272 q161 q2273) (by decide +kernel) (by decide) rfl rfl (Nat.le_of_ble_eq_true rfl) dX8_choose_80 rfl ?_
        refine gw_bipush 83 hC dX8_choose_83 (by decide) ?_
        refine gw_icmp_ge 85 123 hC dX8_choose_85 (by decide) (fun c40 => ?_) (fun c40 => ?_)
        · replace h := if_t h c40
          refine gw_sub [0, 1, 2, 3, 4, 5] rfl ?_
          exact hj37 _ _ _ _ _ _ h
        · replace h := if_f h c40
          refine gw_iload 88 5 hC dX8_choose_88 rfl ?_
          refine gw_iload 90 4 hC dX8_choose_90 rfl ?_
          refine gw_icmp_ne 92 98 hC dX8_choose_92 (by decide) (fun c41 => ?_) (fun c41 => ?_)
          · replace h := if_f h c41
            refine gw_aload_n 98 0 hC dX8_choose_98 rfl ?_
            refine mg_63 99 hC dX8_choose_99 ?_
            refine gw_iload 102 5 hC dX8_choose_102 rfl ?_
            refine gw_aload_n 104 0 hC dX8_choose_104 rfl ?_
            refine gw_iload 105 5 hC dX8_choose_105 rfl ?_
            refine gw_aload_n 107 0 hC dX8_choose_107 rfl ?_
            refine gw_iload 108 5 hC dX8_choose_108 rfl ?_
            refine gw_iload 110 4 hC dX8_choose_110 rfl ?_
            refine gw_iload_n 112 1 hC dX8_choose_112 rfl ?_
            refine gw_iload_n 113 2 hC dX8_choose_113 rfl ?_
            obtain ⟨z42, ez42, h⟩ := opt_e h
            refine gw_callV (As := [J x5_20, J x4_19, J x1_16, J x2_17]) (rest := [J x5_20, .ref o, J x5_20, .ref (o + mO 63)]) (st' := [J z42.1, J x5_20, .ref o, J x5_20, .ref (o + mO 63)]) 114 4 hC (met_bestTurn ez42 l) (lw_V q2434 q2436 qs120 q161 q2437) (by decide +kernel) (by decide) (m_recv hC) rfl rfl (Nat.le_of_ble_eq_true rfl) dX8_choose_114 rfl ?_
            refine gw_iload_n 117 1 hC dX8_choose_117 rfl ?_
            refine gw_iload_n 118 2 hC dX8_choose_118 rfl ?_
            obtain ⟨z43, ez43, h⟩ := opt_e h
            refine gw_callV (As := [J x5_20, J z42.1, J x1_16, J x2_17]) (rest := [J x5_20, .ref (o + mO 63)]) (st' := [Lg z43.1, J x5_20, .ref (o + mO 63)]) 119 4 hC (met_moreBy ez43 l) (lw_V q2438 q2440 qs121 q161 q2441) (by decide +kernel) (by decide) (m_recv hC) rfl rfl (Nat.le_of_ble_eq_true rfl) dX8_choose_119 rfl ?_
            obtain ⟨g44, h⟩ := gd_e h
            obtain ⟨s45, es45, h⟩ := bnd_e h
            refine m_last 122 63 hC (MIn_self o) (by decide) rfl g44 es45 dX8_choose_122 ?_
            refine gw_sub [0, 1, 2, 3, 4, 5] rfl ?_
            exact hj37 _ _ _ _ _ _ h
          · replace h := if_t h c41
            refine gw_goto 95 123 hC dX8_choose_95 (by decide) ?_
            refine gw_sub [0, 1, 2, 3, 4, 5] rfl ?_
            exact hj37 _ _ _ _ _ _ h
theorem met_choose {D : MD} {o : Nat} {a1 : Int} {a2 : Int} {a3 : Int} {s0 : MS} {res : Int × MS} (h : m_choose a1 a2 a3 s0 = some res) (l : Launch) : GMet l yX8_choose cX8_choose 6 (some .long) 6 (MRp D o) (MK D) (mAd o) [.ref o, J a1, J a2, J a3] s0 2 res := by
  refine GMet.of [(0, .ref o), (1, J a1), (2, J a2), (3, J a3)] (by decide) (MK_moved D) (Nat.le_of_ble_eq_true rfl) rfl ?_
  intro p e s m args below meth c hC
  have hC : GC p s m args meth c cX8_choose RX8 6 (some .long) (MK D) := hC
  unfold m_choose at h
  refine gw_aload_n 0 0 hC dX8_choose_0 rfl ?_
  refine gw_iload_n 1 1 hC dX8_choose_1 rfl ?_
  obtain ⟨z4, ez4, h⟩ := opt_e h
  refine gw_callV (As := [J a1]) (rest := []) (st' := [J z4.1]) 2 1 hC (met_isSaying ez4 l) (lw_V q2295 q2297 qs98 q161 q2298) (by decide +kernel) (by decide) (m_recv hC) rfl rfl (Nat.le_of_ble_eq_true rfl) dX8_choose_2 rfl ?_
  refine gw_if_eq 5 31 hC dX8_choose_5 (by decide) (fun c5 => ?_) (fun c5 => ?_)
  · replace h := if_t h c5
    refine gw_ldc2 (v := -1000000000000000) 31 hC dX8_choose_31 q2401 (by decide) ?_
    exact gw_lret 34 hC dX8_choose_34 h
  · replace h := if_f h c5
    refine gw_aload_n 8 0 hC dX8_choose_8 rfl ?_
    refine gw_iload_n 9 2 hC dX8_choose_9 rfl ?_
    obtain ⟨z6, ez6, h⟩ := opt_e h
    refine gw_callV (As := [J a2]) (rest := []) (st' := [J z6.1]) 10 1 hC (met_isSaying ez6 l) (lw_V q2295 q2297 qs98 q161 q2298) (by decide +kernel) (by decide) (m_recv hC) rfl rfl (Nat.le_of_ble_eq_true rfl) dX8_choose_10 rfl ?_
    refine gw_if_eq 13 31 hC dX8_choose_13 (by decide) (fun c7 => ?_) (fun c7 => ?_)
    · replace h := if_t h c7
      refine gw_ldc2 (v := -1000000000000000) 31 hC dX8_choose_31 q2401 (by decide) ?_
      exact gw_lret 34 hC dX8_choose_34 h
    · replace h := if_f h c7
      refine gw_iload_n 16 1 hC dX8_choose_16 rfl ?_
      refine gw_iload_n 17 2 hC dX8_choose_17 rfl ?_
      refine gw_icmp_eq 18 31 hC dX8_choose_18 (by decide) (fun c8 => ?_) (fun c8 => ?_)
      · replace h := if_t h c8
        refine gw_ldc2 (v := -1000000000000000) 31 hC dX8_choose_31 q2401 (by decide) ?_
        exact gw_lret 34 hC dX8_choose_34 h
      · replace h := if_f h c8
        refine gw_iload_n 21 3 hC dX8_choose_21 rfl ?_
        refine gw_i2l 22 hC dX8_choose_22 ?_
        refine gw_lconst (v := 0) 23 hC dX8_choose_23 (by decide) ?_
        refine gw_lconst (v := 1) 24 hC dX8_choose_24 (by decide) ?_
        obtain ⟨z9, ez9, h⟩ := opt_e h
        refine gw_callS (As := [Lg (i32 a3), Lg 0, Lg 1]) (rest := []) (st' := [J z9.1]) 25 3 hC (met_isIn ez9 l) (lw_S q2123 q2124 q161 q2125) (by decide +kernel) (by decide) rfl rfl (Nat.le_of_ble_eq_true rfl) dX8_choose_25 rfl ?_
        refine gw_if_ne 28 35 hC dX8_choose_28 (by decide) (fun c10 => ?_) (fun c10 => ?_)
        · replace h := if_f h c10
          refine gw_aload_n 35 0 hC dX8_choose_35 rfl ?_
          obtain ⟨z11, ez11, h⟩ := opt_e h
          refine gw_callV (As := []) (rest := []) (st' := []) 36 0 hC (met_laysPairs ez11 l) (lw_V q2304 q2306 qs100 q161 q2307) (by decide +kernel) (by decide) (m_recv hC) rfl rfl (Nat.le_of_ble_eq_true rfl) dX8_choose_36 rfl ?_
          refine gw_aload_n 39 0 hC dX8_choose_39 rfl ?_
          obtain ⟨z12, ez12, h⟩ := opt_e h
          refine gw_callV (As := []) (rest := []) (st' := [J z12.1]) 40 0 hC (met_sack ez12 l) (lw_V q2263 q2265 qs93 q161 q2266) (by decide +kernel) (by decide) (m_recv hC) rfl rfl (Nat.le_of_ble_eq_true rfl) dX8_choose_40 rfl ?_
          obtain ⟨x4_13, ex4_13, h⟩ := bnd_e h
          refine gw_istore 43 [(4, J x4_13), (0, .ref o), (1, J a1), (2, J a2), (3, J a3)] hC dX8_choose_43 (by decide) ex4_13 rfl ?_
          refine gw_iconst 45 hC dX8_choose_45 ?_
          refine gw_aload_n 46 1 hC dX8_choose_46 rfl ?_
          obtain ⟨z14, ez14, h⟩ := opt_e h
          refine gw_callV (As := []) (rest := [J 1]) (st' := [J z14.1, J 1]) 47 0 hC (met_verbMany ez14 l) (lw_V q2259 q2261 qs92 q161 q2262) (by decide +kernel) (by decide) (m_recv hC) rfl rfl (Nat.le_of_ble_eq_true rfl) dX8_choose_47 rfl ?_
          refine gw_ishl 50 hC dX8_choose_50 ?_
          refine gw_iconst 51 hC dX8_choose_51 ?_
          refine gw_isub 52 hC dX8_choose_52 ?_
          obtain ⟨x5_15, ex5_15, h⟩ := bnd_e h
          refine gw_istore 53 [(5, J x5_15), (4, J x4_13), (0, .ref o), (1, J a1), (2, J a2), (3, J a3)] hC dX8_choose_53 (by decide) ex5_15 rfl ?_
          refine gw_sub [2, 3, 4, 5, 1, 0] rfl ?_
          refine wm_choose_L55 hC (fun x1_46 x2_47 x3_48 x4_49 s50 h => ?_) FU _ _ _ _ _ _ h
          · refine gw_iload_n 129 3 hC dX8_choose_129 rfl ?_
            refine gw_if_ne 130 142 hC dX8_choose_130 (by decide) (fun c51 => ?_) (fun c51 => ?_)
            · replace h := if_f h c51
              refine gw_aload_n 142 0 hC dX8_choose_142 rfl ?_
              refine gw_iconst 143 hC dX8_choose_143 ?_
              refine gw_iload 144 4 hC dX8_choose_144 rfl ?_
              refine gw_iload_n 146 1 hC dX8_choose_146 rfl ?_
              refine gw_iload_n 147 2 hC dX8_choose_147 rfl ?_
              obtain ⟨z52, ez52, h⟩ := opt_e h
              refine gw_callV (As := [J 0, J x4_49, J x1_46, J x2_47]) (rest := []) (st' := [J z52.1]) 148 4 hC (met_bestTurn ez52 l) (lw_V q2434 q2436 qs120 q161 q2437) (by decide +kernel) (by decide) (m_recv hC) rfl rfl (Nat.le_of_ble_eq_true rfl) dX8_choose_148 rfl ?_
              refine gw_i2l 151 hC dX8_choose_151 ?_
              exact gw_lret 152 hC dX8_choose_152 h
            · replace h := if_t h c51
              refine gw_aload_n 133 0 hC dX8_choose_133 rfl ?_
              refine mg_63 134 hC dX8_choose_134 ?_
              refine gw_iconst 137 hC dX8_choose_137 ?_
              obtain ⟨g53, h⟩ := gd_e h
              refine m_lald 138 63 hC (by decide) rfl g53 dX8_choose_138 ?_
              refine gw_goto 139 152 hC dX8_choose_139 (by decide) ?_
              exact gw_lret 152 hC dX8_choose_152 h
        · replace h := if_t h c10
          refine gw_ldc2 (v := -1000000000000000) 31 hC dX8_choose_31 q2401 (by decide) ?_
          exact gw_lret 34 hC dX8_choose_34 h
/-! putsAside()V -/
noncomputable def m_putsAside_L7 (k31 : MS → Option (Int × MS)) : Nat → Int → MS → Option (Int × MS)
  | 0, _, _ => none
  | n + 1, x1_3, s4 =>
    if i32 68 ≤ i32 x1_3 then
      k31 s4
    else
      gd (ok 219 x1_3) <|
      gd (ok 68 x1_3) <|
      bnd (up s4 49 (i32 x1_3) (s4 48 (i32 x1_3))) fun s9 =>
      bnd (x1_3 + 1) fun x1_10 =>
      m_putsAside_L7 k31 n x1_10 s9
noncomputable def m_putsAside (s0 : MS) : Option (Int × MS) :=
  bnd (up s0 60 0 1) fun s1 =>
  bnd 0 fun x1_2 =>
  m_putsAside_L7
    (fun (s11 : MS) =>
      some (0, s11))
    FU x1_2 s1
theorem wm_putsAside_L7 {p : Program} {l : Launch} {e : Env} {s : State} {m : MethodId} {args : Array Value} {below : List Frame} {meth : Method} {c : Code} {D : MD} {o : Nat} {res : Int × MS} {k31 : MS → Option (Int × MS)} (hC : GC p s m args meth c cX8_putsAside RX8 2 none (MK D)) (hk31 : ∀ (s5 : MS), k31 s5 = some res → GW p l e (rmd 1) s m args below meth c 2 (mAd o) (MRp D o) (MK D) 0 res s5 31 [] []) : ∀ (n : Nat) (x1_3 : Int) (s4 : MS), m_putsAside_L7 k31 n x1_3 s4 = some res → GW p l e (rmd 1) s m args below meth c 2 (mAd o) (MRp D o) (MK D) 0 res s4 7 [(0, .ref o), (1, J x1_3)] [] := by
  intro n
  induction n with
  | zero =>
    intro x1_3 s4 h
    cases h
  | succ n ih =>
    intro x1_3 s4 h
    rw [m_putsAside_L7] at h
    refine gw_iload_n 7 1 hC dX8_putsAside_7 rfl ?_
    refine gw_bipush 8 hC dX8_putsAside_8 (by decide) ?_
    refine gw_icmp_ge 10 31 hC dX8_putsAside_10 (by decide) (fun c6 => ?_) (fun c6 => ?_)
    · replace h := if_t h c6
      refine gw_sub [] rfl ?_
      exact hk31 _ h
    · replace h := if_f h c6
      refine gw_aload_n 13 0 hC dX8_putsAside_13 rfl ?_
      refine mg_49 14 hC dX8_putsAside_14 ?_
      refine gw_iload_n 17 1 hC dX8_putsAside_17 rfl ?_
      refine gw_aload_n 18 0 hC dX8_putsAside_18 rfl ?_
      refine mg_48 19 hC dX8_putsAside_19 ?_
      refine gw_iload_n 22 1 hC dX8_putsAside_22 rfl ?_
      obtain ⟨g7, h⟩ := gd_e h
      refine m_iald 23 48 hC (by decide) rfl g7 dX8_putsAside_23 ?_
      obtain ⟨g8, h⟩ := gd_e h
      obtain ⟨s9, es9, h⟩ := bnd_e h
      refine m_iast 24 49 hC (MIn_self o) (by decide) rfl g8 es9 dX8_putsAside_24 ?_
      obtain ⟨x1_10, ex1_10, h⟩ := bnd_e h
      refine gw_iinc 25 1 [(1, J x1_10), (0, .ref o)] hC dX8_putsAside_25 rfl ex1_10 (by decide) rfl ?_
      refine gw_goto 28 7 hC dX8_putsAside_28 (by decide) ?_
      refine gw_sub [1, 0] rfl ?_
      exact ih _ _ h
theorem met_putsAside {D : MD} {o : Nat} {s0 : MS} {res : Int × MS} (h : m_putsAside s0 = some res) (l : Launch) : GMet l yX8_putsAside cX8_putsAside 2 none 1 (MRp D o) (MK D) (mAd o) [.ref o] s0 0 res := by
  refine GMet.of [(0, .ref o)] (by decide) (MK_moved D) (Nat.le_of_ble_eq_true rfl) rfl ?_
  intro p e s m args below meth c hC
  have hC : GC p s m args meth c cX8_putsAside RX8 2 none (MK D) := hC
  unfold m_putsAside at h
  refine gw_aload_n 0 0 hC dX8_putsAside_0 rfl ?_
  refine gw_iconst 1 hC dX8_putsAside_1 ?_
  obtain ⟨s1, es1, h⟩ := bnd_e h
  refine mp_60 2 hC (MIn_self o) (by decide) es1 dX8_putsAside_2 ?_
  refine gw_iconst 5 hC dX8_putsAside_5 ?_
  obtain ⟨x1_2, ex1_2, h⟩ := bnd_e h
  refine gw_istore_n 6 [(1, J x1_2), (0, .ref o)] hC dX8_putsAside_6 (by decide) ex1_2 rfl ?_
  refine gw_sub [1, 0] rfl ?_
  refine wm_putsAside_L7 hC (fun s11 h => ?_) FU _ _ h
  · exact gw_vret 31 hC dX8_putsAside_31 h
/-! triesAnew()V -/
noncomputable def m_triesAnew_L2 (k26 : MS → Option (Int × MS)) : Nat → Int → MS → Option (Int × MS)
  | 0, _, _ => none
  | n + 1, x1_2, s3 =>
    if i32 68 ≤ i32 x1_2 then
      k26 s3
    else
      gd (ok 68 x1_2) <|
      gd (ok 219 x1_2) <|
      bnd (up s3 48 (i32 x1_2) (s3 49 (i32 x1_2))) fun s8 =>
      bnd (x1_2 + 1) fun x1_9 =>
      m_triesAnew_L2 k26 n x1_9 s8
noncomputable def m_triesAnew (s0 : MS) : Option (Int × MS) :=
  bnd 0 fun x1_1 =>
  m_triesAnew_L2
    (fun (s10 : MS) =>
      some (0, s10))
    FU x1_1 s0
theorem wm_triesAnew_L2 {p : Program} {l : Launch} {e : Env} {s : State} {m : MethodId} {args : Array Value} {below : List Frame} {meth : Method} {c : Code} {D : MD} {o : Nat} {res : Int × MS} {k26 : MS → Option (Int × MS)} (hC : GC p s m args meth c cX8_triesAnew RX8 2 none (MK D)) (hk26 : ∀ (s4 : MS), k26 s4 = some res → GW p l e (rmd 1) s m args below meth c 2 (mAd o) (MRp D o) (MK D) 0 res s4 26 [] []) : ∀ (n : Nat) (x1_2 : Int) (s3 : MS), m_triesAnew_L2 k26 n x1_2 s3 = some res → GW p l e (rmd 1) s m args below meth c 2 (mAd o) (MRp D o) (MK D) 0 res s3 2 [(0, .ref o), (1, J x1_2)] [] := by
  intro n
  induction n with
  | zero =>
    intro x1_2 s3 h
    cases h
  | succ n ih =>
    intro x1_2 s3 h
    rw [m_triesAnew_L2] at h
    refine gw_iload_n 2 1 hC dX8_triesAnew_2 rfl ?_
    refine gw_bipush 3 hC dX8_triesAnew_3 (by decide) ?_
    refine gw_icmp_ge 5 26 hC dX8_triesAnew_5 (by decide) (fun c5 => ?_) (fun c5 => ?_)
    · replace h := if_t h c5
      refine gw_sub [] rfl ?_
      exact hk26 _ h
    · replace h := if_f h c5
      refine gw_aload_n 8 0 hC dX8_triesAnew_8 rfl ?_
      refine mg_48 9 hC dX8_triesAnew_9 ?_
      refine gw_iload_n 12 1 hC dX8_triesAnew_12 rfl ?_
      refine gw_aload_n 13 0 hC dX8_triesAnew_13 rfl ?_
      refine mg_49 14 hC dX8_triesAnew_14 ?_
      refine gw_iload_n 17 1 hC dX8_triesAnew_17 rfl ?_
      obtain ⟨g6, h⟩ := gd_e h
      refine m_iald 18 49 hC (by decide) rfl g6 dX8_triesAnew_18 ?_
      obtain ⟨g7, h⟩ := gd_e h
      obtain ⟨s8, es8, h⟩ := bnd_e h
      refine m_iast 19 48 hC (MIn_self o) (by decide) rfl g7 es8 dX8_triesAnew_19 ?_
      obtain ⟨x1_9, ex1_9, h⟩ := bnd_e h
      refine gw_iinc 20 1 [(1, J x1_9), (0, .ref o)] hC dX8_triesAnew_20 rfl ex1_9 (by decide) rfl ?_
      refine gw_goto 23 2 hC dX8_triesAnew_23 (by decide) ?_
      refine gw_sub [1, 0] rfl ?_
      exact ih _ _ h
theorem met_triesAnew {D : MD} {o : Nat} {s0 : MS} {res : Int × MS} (h : m_triesAnew s0 = some res) (l : Launch) : GMet l yX8_triesAnew cX8_triesAnew 2 none 1 (MRp D o) (MK D) (mAd o) [.ref o] s0 0 res := by
  refine GMet.of [(0, .ref o)] (by decide) (MK_moved D) (Nat.le_of_ble_eq_true rfl) rfl ?_
  intro p e s m args below meth c hC
  have hC : GC p s m args meth c cX8_triesAnew RX8 2 none (MK D) := hC
  unfold m_triesAnew at h
  refine gw_iconst 0 hC dX8_triesAnew_0 ?_
  obtain ⟨x1_1, ex1_1, h⟩ := bnd_e h
  refine gw_istore_n 1 [(1, J x1_1), (0, .ref o)] hC dX8_triesAnew_1 (by decide) ex1_1 rfl ?_
  refine gw_sub [1, 0] rfl ?_
  refine wm_triesAnew_L2 hC (fun s10 h => ?_) FU _ _ h
  · exact gw_vret 26 hC dX8_triesAnew_26 h
/-! takesBack()V -/
noncomputable def m_takesBack (s0 : MS) : Option (Int × MS) :=
  Option.bind (m_triesAnew s0) fun z1 =>
  bnd (up z1.2 60 0 0) fun s2 =>
  some (0, s2)
theorem met_takesBack {D : MD} {o : Nat} {s0 : MS} {res : Int × MS} (h : m_takesBack s0 = some res) (l : Launch) : GMet l yX8_takesBack cX8_takesBack 1 none 2 (MRp D o) (MK D) (mAd o) [.ref o] s0 0 res := by
  refine GMet.of [(0, .ref o)] (by decide) (MK_moved D) (Nat.le_of_ble_eq_true rfl) rfl ?_
  intro p e s m args below meth c hC
  have hC : GC p s m args meth c cX8_takesBack RX8 1 none (MK D) := hC
  unfold m_takesBack at h
  refine gw_aload_n 0 0 hC dX8_takesBack_0 rfl ?_
  obtain ⟨z1, ez1, h⟩ := opt_e h
  refine gw_callV (As := []) (rest := []) (st' := []) 1 0 hC (met_triesAnew ez1 l) (lw_V q2450 q2452 qs123 q161 q2453) (by decide +kernel) (by decide) (m_recv hC) rfl rfl (Nat.le_of_ble_eq_true rfl) dX8_takesBack_1 rfl ?_
  refine gw_aload_n 4 0 hC dX8_takesBack_4 rfl ?_
  refine gw_iconst 5 hC dX8_takesBack_5 ?_
  obtain ⟨s2, es2, h⟩ := bnd_e h
  refine mp_60 6 hC (MIn_self o) (by decide) es2 dX8_takesBack_6 ?_
  exact gw_vret 9 hC dX8_takesBack_9 h
/-! asked()I -/
noncomputable def m_asked_L48 (k99 : Int → Int → MS → Option (Int × MS)) : Nat → Int → Int → Int → MS → Option (Int × MS)
  | 0, _, _, _, _ => none
  | n + 1, x1_21, x2_22, x3_23, s24 =>
    Option.bind (m_sayingMany s24) fun z28 =>
    if i32 z28.1 ≤ i32 x3_23 then
      k99 x1_21 x2_22 z28.2
    else
      bnd (fun (x1_30 : Int) (x2_31 : Int) (x3_32 : Int) (s33 : MS) =>
          bnd (x3_32 + 1) fun x3_34 =>
          m_asked_L48 k99 n x1_30 x2_31 x3_34 s33) fun j35 =>
      if i32 (iand (ishr x2_22 x3_23) 1) = i32 1 then
        gd (ok 219 (8 + (10 * x3_23))) <|
        bnd (up z28.2 48 (i32 (8 + (10 * x3_23))) 0) fun s38 =>
        gd (ok 219 ((8 + (10 * x3_23)) + 1)) <|
        bnd (up s38 48 (i32 ((8 + (10 * x3_23)) + 1)) 0) fun s40 =>
        j35 x1_21 x2_22 x3_23 s40
      else
        j35 x1_21 x2_22 x3_23 z28.2
noncomputable def m_asked_L17 (k128 : Int → MS → Option (Int × MS)) : Nat → Int → Int → MS → Option (Int × MS)
  | 0, _, _, _ => none
  | n + 1, x1_5, x2_6, s7 =>
    Option.bind (m_sayingMany s7) fun z10 =>
    if i32 (ishl 1 z10.1) ≤ i32 x2_6 then
      k128 x1_5 z10.2
    else
      bnd (fun (x1_12 : Int) (x2_13 : Int) (s14 : MS) =>
          bnd (x2_13 + 1) fun x2_15 =>
          m_asked_L17 k128 n x1_12 x2_15 s14) fun j16 =>
      bnd (fun (x1_17 : Int) (x2_18 : Int) (s19 : MS) =>
          bnd 0 fun x3_20 =>
          m_asked_L48
            (fun (x1_41 : Int) (x2_42 : Int) (s43 : MS) =>
              Option.bind (m_laysRound s43) fun z44 =>
              gd (ok 4 2) <|
              bnd (fun (x1_46 : Int) (x2_47 : Int) (s48 : MS) =>
                  Option.bind (m_triesAnew s48) fun z49 =>
                  j16 x1_46 x2_47 z49.2) fun j50 =>
              if i32 (z44.2 35 (i32 2)) < i32 (z44.2 59 0) then
                j50 x1_41 x2_42 z44.2
              else
                j50 x2_42 x2_42 z44.2)
            FU x1_17 x2_18 x3_20 s19) fun j52 =>
      if i32 x1_5 = i32 (-1) then
        j52 x1_5 x2_6 z10.2
      else
        Option.bind (m_bits x2_6 z10.2) fun z54 =>
        Option.bind (m_bits x1_5 z54.2) fun z55 =>
        if i32 z54.1 < i32 z55.1 then
          j52 x1_5 x2_6 z55.2
        else
          j16 x1_5 x2_6 z55.2
noncomputable def m_asked (s0 : MS) : Option (Int × MS) :=
  if i32 (s0 46 0) = 0 then
    some ((-1), s0)
  else
    bnd (-1) fun x1_2 =>
    Option.bind (m_putsAside s0) fun z3 =>
    bnd 0 fun x2_4 =>
    m_asked_L17
      (fun (x1_57 : Int) (s58 : MS) =>
        Option.bind (m_takesBack s58) fun z59 =>
        some (x1_57, z59.2))
      FU x1_2 x2_4 z3.2
theorem wm_asked_L48 {p : Program} {l : Launch} {e : Env} {s : State} {m : MethodId} {args : Array Value} {below : List Frame} {meth : Method} {c : Code} {D : MD} {o : Nat} {res : Int × MS} {k99 : Int → Int → MS → Option (Int × MS)} (hC : GC p s m args meth c cX8_asked RX8 4 (some .int) (MK D)) (hk99 : ∀ (x1_25 : Int) (x2_26 : Int) (s27 : MS), k99 x1_25 x2_26 s27 = some res → GW p l e (rmd 5) s m args below meth c 4 (mAd o) (MRp D o) (MK D) 1 res s27 99 [(0, .ref o), (1, J x1_25), (2, J x2_26)] []) : ∀ (n : Nat) (x1_21 : Int) (x2_22 : Int) (x3_23 : Int) (s24 : MS), m_asked_L48 k99 n x1_21 x2_22 x3_23 s24 = some res → GW p l e (rmd 5) s m args below meth c 4 (mAd o) (MRp D o) (MK D) 1 res s24 48 [(0, .ref o), (1, J x1_21), (2, J x2_22), (3, J x3_23)] [] := by
  intro n
  induction n with
  | zero =>
    intro x1_21 x2_22 x3_23 s24 h
    cases h
  | succ n ih =>
    intro x1_21 x2_22 x3_23 s24 h
    rw [m_asked_L48] at h
    refine gw_iload_n 48 3 hC dX8_asked_48 rfl ?_
    refine gw_aload_n 49 0 hC dX8_asked_49 rfl ?_
    obtain ⟨z28, ez28, h⟩ := opt_e h
    refine gw_callV (As := []) (rest := [J x3_23]) (st' := [J z28.1, J x3_23]) 50 0 hC (met_sayingMany ez28 l) (lw_V q2278 q2280 qs96 q161 q2281) (by decide +kernel) (by decide) (m_recv hC) rfl rfl (Nat.le_of_ble_eq_true rfl) dX8_asked_50 rfl ?_
    refine gw_icmp_ge 53 99 hC dX8_asked_53 (by decide) (fun c29 => ?_) (fun c29 => ?_)
    · replace h := if_t h c29
      refine gw_sub [0, 1, 2] rfl ?_
      exact hk99 _ _ _ h
    · replace h := if_f h c29
      refine gw_iload_n 56 2 hC dX8_asked_56 rfl ?_
      refine gw_iload_n 57 3 hC dX8_asked_57 rfl ?_
      refine gw_ishr 58 hC dX8_asked_58 ?_
      refine gw_iconst 59 hC dX8_asked_59 ?_
      refine gw_iand 60 hC dX8_asked_60 ?_
      refine gw_iconst 61 hC dX8_asked_61 ?_
      obtain ⟨j35, ej35, h⟩ := bnd_e h
      have hj35 : ∀ (x1_30 : Int) (x2_31 : Int) (x3_32 : Int) (s33 : MS), j35 x1_30 x2_31 x3_32 s33 = some res → GW p l e (rmd 5) s m args below meth c 4 (mAd o) (MRp D o) (MK D) 1 res s33 93 [(0, .ref o), (1, J x1_30), (2, J x2_31), (3, J x3_32)] [] := by
        clear h
        intro x1_30 x2_31 x3_32 s33 h
        subst ej35
        obtain ⟨x3_34, ex3_34, h⟩ := bnd_e h
        refine gw_iinc 93 3 [(3, J x3_34), (0, .ref o), (1, J x1_30), (2, J x2_31)] hC dX8_asked_93 rfl ex3_34 (by decide) rfl ?_
        refine gw_goto 96 48 hC dX8_asked_96 (by decide) ?_
        refine gw_sub [1, 2, 3, 0] rfl ?_
        exact ih _ _ _ _ h
      refine gw_icmp_ne 62 93 hC dX8_asked_62 (by decide) (fun c36 => ?_) (fun c36 => ?_)
      · replace h := if_f h c36
        refine gw_sub [0, 1, 2, 3] rfl ?_
        exact hj35 _ _ _ _ h
      · replace h := if_t h c36
        refine gw_aload_n 65 0 hC dX8_asked_65 rfl ?_
        refine mg_48 66 hC dX8_asked_66 ?_
        refine gw_bipush 69 hC dX8_asked_69 (by decide) ?_
        refine gw_bipush 71 hC dX8_asked_71 (by decide) ?_
        refine gw_iload_n 73 3 hC dX8_asked_73 rfl ?_
        refine gw_imul 74 hC dX8_asked_74 ?_
        refine gw_iadd 75 hC dX8_asked_75 ?_
        refine gw_iconst 76 hC dX8_asked_76 ?_
        obtain ⟨g37, h⟩ := gd_e h
        obtain ⟨s38, es38, h⟩ := bnd_e h
        refine m_iast 77 48 hC (MIn_self o) (by decide) rfl g37 es38 dX8_asked_77 ?_
        refine gw_aload_n 78 0 hC dX8_asked_78 rfl ?_
        refine mg_48 79 hC dX8_asked_79 ?_
        refine gw_bipush 82 hC dX8_asked_82 (by decide) ?_
        refine gw_bipush 84 hC dX8_asked_84 (by decide) ?_
        refine gw_iload_n 86 3 hC dX8_asked_86 rfl ?_
        refine gw_imul 87 hC dX8_asked_87 ?_
        refine gw_iadd 88 hC dX8_asked_88 ?_
        refine gw_iconst 89 hC dX8_asked_89 ?_
        refine gw_iadd 90 hC dX8_asked_90 ?_
        refine gw_iconst 91 hC dX8_asked_91 ?_
        obtain ⟨g39, h⟩ := gd_e h
        obtain ⟨s40, es40, h⟩ := bnd_e h
        refine m_iast 92 48 hC (MIn_self o) (by decide) rfl g39 es40 dX8_asked_92 ?_
        refine gw_sub [0, 1, 2, 3] rfl ?_
        exact hj35 _ _ _ _ h
theorem wm_asked_L17 {p : Program} {l : Launch} {e : Env} {s : State} {m : MethodId} {args : Array Value} {below : List Frame} {meth : Method} {c : Code} {D : MD} {o : Nat} {res : Int × MS} {k128 : Int → MS → Option (Int × MS)} (hC : GC p s m args meth c cX8_asked RX8 4 (some .int) (MK D)) (hk128 : ∀ (x1_8 : Int) (s9 : MS), k128 x1_8 s9 = some res → GW p l e (rmd 5) s m args below meth c 4 (mAd o) (MRp D o) (MK D) 1 res s9 128 [(0, .ref o), (1, J x1_8)] []) : ∀ (n : Nat) (x1_5 : Int) (x2_6 : Int) (s7 : MS), m_asked_L17 k128 n x1_5 x2_6 s7 = some res → GW p l e (rmd 5) s m args below meth c 4 (mAd o) (MRp D o) (MK D) 1 res s7 17 [(0, .ref o), (1, J x1_5), (2, J x2_6)] [] := by
  intro n
  induction n with
  | zero =>
    intro x1_5 x2_6 s7 h
    cases h
  | succ n ih =>
    intro x1_5 x2_6 s7 h
    rw [m_asked_L17] at h
    refine gw_iload_n 17 2 hC dX8_asked_17 rfl ?_
    refine gw_iconst 18 hC dX8_asked_18 ?_
    refine gw_aload_n 19 0 hC dX8_asked_19 rfl ?_
    obtain ⟨z10, ez10, h⟩ := opt_e h
    refine gw_callV (As := []) (rest := [J 1, J x2_6]) (st' := [J z10.1, J 1, J x2_6]) 20 0 hC (met_sayingMany ez10 l) (lw_V q2278 q2280 qs96 q161 q2281) (by decide +kernel) (by decide) (m_recv hC) rfl rfl (Nat.le_of_ble_eq_true rfl) dX8_asked_20 rfl ?_
    refine gw_ishl 23 hC dX8_asked_23 ?_
    refine gw_icmp_ge 24 128 hC dX8_asked_24 (by decide) (fun c11 => ?_) (fun c11 => ?_)
    · replace h := if_t h c11
      refine gw_sub [0, 1] rfl ?_
      exact hk128 _ _ h
    · replace h := if_f h c11
      refine gw_iload_n 27 1 hC dX8_asked_27 rfl ?_
      refine gw_iconst 28 hC dX8_asked_28 ?_
      obtain ⟨j16, ej16, h⟩ := bnd_e h
      have hj16 : ∀ (x1_12 : Int) (x2_13 : Int) (s14 : MS), j16 x1_12 x2_13 s14 = some res → GW p l e (rmd 5) s m args below meth c 4 (mAd o) (MRp D o) (MK D) 1 res s14 122 [(0, .ref o), (1, J x1_12), (2, J x2_13)] [] := by
        clear h
        intro x1_12 x2_13 s14 h
        subst ej16
        obtain ⟨x2_15, ex2_15, h⟩ := bnd_e h
        refine gw_iinc 122 2 [(2, J x2_15), (0, .ref o), (1, J x1_12)] hC dX8_asked_122 rfl ex2_15 (by decide) rfl ?_
        refine gw_goto 125 17 hC dX8_asked_125 (by decide) ?_
        refine gw_sub [1, 2, 0] rfl ?_
        exact ih _ _ _ h
      obtain ⟨j52, ej52, h⟩ := bnd_e h
      have hj52 : ∀ (x1_17 : Int) (x2_18 : Int) (s19 : MS), j52 x1_17 x2_18 s19 = some res → GW p l e (rmd 5) s m args below meth c 4 (mAd o) (MRp D o) (MK D) 1 res s19 46 [(0, .ref o), (1, J x1_17), (2, J x2_18)] [] := by
        clear h
        intro x1_17 x2_18 s19 h
        subst ej52
        refine gw_iconst 46 hC dX8_asked_46 ?_
        obtain ⟨x3_20, ex3_20, h⟩ := bnd_e h
        refine gw_istore_n 47 [(3, J x3_20), (0, .ref o), (1, J x1_17), (2, J x2_18)] hC dX8_asked_47 (by decide) ex3_20 rfl ?_
        refine gw_sub [1, 2, 3, 0] rfl ?_
        refine wm_asked_L48 hC (fun x1_41 x2_42 s43 h => ?_) FU _ _ _ _ h
        · refine gw_aload_n 99 0 hC dX8_asked_99 rfl ?_
          obtain ⟨z44, ez44, h⟩ := opt_e h
          refine gw_callV (As := []) (rest := []) (st' := []) 100 0 hC (met_laysRound ez44 l) (lw_V q2365 q2367 qs113 q161 q2368) (by decide +kernel) (by decide) (m_recv hC) rfl rfl (Nat.le_of_ble_eq_true rfl) dX8_asked_100 rfl ?_
          refine gw_aload_n 103 0 hC dX8_asked_103 rfl ?_
          refine mg_59 104 hC dX8_asked_104 ?_
          refine gw_aload_n 107 0 hC dX8_asked_107 rfl ?_
          refine mg_35 108 hC dX8_asked_108 ?_
          refine gw_iconst 111 hC dX8_asked_111 ?_
          obtain ⟨g45, h⟩ := gd_e h
          refine m_iald 112 35 hC (by decide) rfl g45 dX8_asked_112 ?_
          obtain ⟨j50, ej50, h⟩ := bnd_e h
          have hj50 : ∀ (x1_46 : Int) (x2_47 : Int) (s48 : MS), j50 x1_46 x2_47 s48 = some res → GW p l e (rmd 5) s m args below meth c 4 (mAd o) (MRp D o) (MK D) 1 res s48 118 [(0, .ref o), (1, J x1_46), (2, J x2_47)] [] := by
            clear h
            intro x1_46 x2_47 s48 h
            subst ej50
            refine gw_aload_n 118 0 hC dX8_asked_118 rfl ?_
            obtain ⟨z49, ez49, h⟩ := opt_e h
            refine gw_callV (As := []) (rest := []) (st' := []) 119 0 hC (met_triesAnew ez49 l) (lw_V q2450 q2452 qs123 q161 q2453) (by decide +kernel) (by decide) (m_recv hC) rfl rfl (Nat.le_of_ble_eq_true rfl) dX8_asked_119 rfl ?_
            refine gw_sub [0, 1, 2] rfl ?_
            exact hj16 _ _ _ h
          refine gw_icmp_gt 113 118 hC dX8_asked_113 (by decide) (fun c51 => ?_) (fun c51 => ?_)
          · replace h := if_t h c51
            refine gw_sub [0, 1, 2] rfl ?_
            exact hj50 _ _ _ h
          · replace h := if_f h c51
            refine gw_iload_n 116 2 hC dX8_asked_116 rfl ?_
            refine gw_istore_n 117 [(1, J x2_42), (0, .ref o), (2, J x2_42)] hC dX8_asked_117 (by decide) rfl rfl ?_
            refine gw_sub [1, 0, 2] rfl ?_
            exact hj50 _ _ _ h
      refine gw_icmp_eq 29 46 hC dX8_asked_29 (by decide) (fun c53 => ?_) (fun c53 => ?_)
      · replace h := if_t h c53
        refine gw_sub [0, 1, 2] rfl ?_
        exact hj52 _ _ _ h
      · replace h := if_f h c53
        refine gw_iload_n 32 2 hC dX8_asked_32 rfl ?_
        obtain ⟨z54, ez54, h⟩ := opt_e h
        refine gw_callS (As := [J x2_6]) (rest := []) (st' := [J z54.1]) 33 1 hC (met_bits ez54 l) (lw_S q2271 q2272 q161 q2273) (by decide +kernel) (by decide) rfl rfl (Nat.le_of_ble_eq_true rfl) dX8_asked_33 rfl ?_
        refine gw_iload_n 36 1 hC dX8_asked_36 rfl ?_
        obtain ⟨z55, ez55, h⟩ := opt_e h
        refine gw_callS (As := [J x1_5]) (rest := [J z54.1]) (st' := [J z55.1, J z54.1]) 37 1 hC (met_bits ez55 l) (lw_S q2271 q2272 q161 q2273) (by decide +kernel) (by decide) rfl rfl (Nat.le_of_ble_eq_true rfl) dX8_asked_37 rfl ?_
        refine gw_icmp_lt 40 46 hC dX8_asked_40 (by decide) (fun c56 => ?_) (fun c56 => ?_)
        · replace h := if_t h c56
          refine gw_sub [0, 1, 2] rfl ?_
          exact hj52 _ _ _ h
        · replace h := if_f h c56
          refine gw_goto 43 122 hC dX8_asked_43 (by decide) ?_
          refine gw_sub [0, 1, 2] rfl ?_
          exact hj16 _ _ _ h
theorem met_asked {D : MD} {o : Nat} {s0 : MS} {res : Int × MS} (h : m_asked s0 = some res) (l : Launch) : GMet l yX8_asked cX8_asked 4 (some .int) 5 (MRp D o) (MK D) (mAd o) [.ref o] s0 1 res := by
  refine GMet.of [(0, .ref o)] (by decide) (MK_moved D) (Nat.le_of_ble_eq_true rfl) rfl ?_
  intro p e s m args below meth c hC
  have hC : GC p s m args meth c cX8_asked RX8 4 (some .int) (MK D) := hC
  unfold m_asked at h
  refine gw_aload_n 0 0 hC dX8_asked_0 rfl ?_
  refine mg_46 1 hC dX8_asked_1 ?_
  refine gw_if_ne 4 9 hC dX8_asked_4 (by decide) (fun c1 => ?_) (fun c1 => ?_)
  · replace h := if_f h c1
    refine gw_iconst 9 hC dX8_asked_9 ?_
    obtain ⟨x1_2, ex1_2, h⟩ := bnd_e h
    refine gw_istore_n 10 [(1, J x1_2), (0, .ref o)] hC dX8_asked_10 (by decide) ex1_2 rfl ?_
    refine gw_aload_n 11 1 hC dX8_asked_11 rfl ?_
    obtain ⟨z3, ez3, h⟩ := opt_e h
    refine gw_callV (As := []) (rest := []) (st' := []) 12 0 hC (met_putsAside ez3 l) (lw_V q2446 q2448 qs122 q161 q2449) (by decide +kernel) (by decide) (m_recv hC) rfl rfl (Nat.le_of_ble_eq_true rfl) dX8_asked_12 rfl ?_
    refine gw_iconst 15 hC dX8_asked_15 ?_
    obtain ⟨x2_4, ex2_4, h⟩ := bnd_e h
    refine gw_istore_n 16 [(2, J x2_4), (1, J x1_2), (0, .ref o)] hC dX8_asked_16 (by decide) ex2_4 rfl ?_
    refine gw_sub [2, 1, 0] rfl ?_
    refine wm_asked_L17 hC (fun x1_57 s58 h => ?_) FU _ _ _ h
    · refine gw_aload_n 128 0 hC dX8_asked_128 rfl ?_
      obtain ⟨z59, ez59, h⟩ := opt_e h
      refine gw_callV (As := []) (rest := []) (st' := []) 129 0 hC (met_takesBack ez59 l) (lw_V q2454 q2456 qs124 q161 q2457) (by decide +kernel) (by decide) (m_recv hC) rfl rfl (Nat.le_of_ble_eq_true rfl) dX8_asked_129 rfl ?_
      refine gw_iload_n 132 1 hC dX8_asked_132 rfl ?_
      exact gw_iret 133 hC dX8_asked_133 h
  · replace h := if_t h c1
    refine gw_iconst 7 hC dX8_asked_7 ?_
    exact gw_iret 8 hC dX8_asked_8 h
/-! isAhead(III)Z -/
noncomputable def m_isAhead (a1 : Int) (a2 : Int) (a3 : Int) (s0 : MS) : Option (Int × MS) :=
  if i32 (s0 46 0) = 0 then
    some (0, s0)
  else
    Option.bind (m_isIn (i32 a1) (i32 a2) (i32 a3) s0) fun z5 =>
    if i32 z5.1 = 0 then
      some (0, z5.2)
    else
      gd (ok 219 0) <|
      if i32 999 < i32 ((z5.2 48 (i32 0)) + a1) then
        some (0, z5.2)
      else
        some (1, z5.2)
theorem met_isAhead {D : MD} {o : Nat} {a1 : Int} {a2 : Int} {a3 : Int} {s0 : MS} {res : Int × MS} (h : m_isAhead a1 a2 a3 s0 = some res) (l : Launch) : GMet l yX8_isAhead cX8_isAhead 4 (some .boolean) 2 (MRp D o) (MK D) (mAd o) [.ref o, J a1, J a2, J a3] s0 1 res := by
  refine GMet.of [(0, .ref o), (1, J a1), (2, J a2), (3, J a3)] (by decide) (MK_moved D) (Nat.le_of_ble_eq_true rfl) rfl ?_
  intro p e s m args below meth c hC
  have hC : GC p s m args meth c cX8_isAhead RX8 4 (some .boolean) (MK D) := hC
  unfold m_isAhead at h
  refine gw_aload_n 0 0 hC dX8_isAhead_0 rfl ?_
  refine mg_46 1 hC dX8_isAhead_1 ?_
  refine gw_if_eq 4 37 hC dX8_isAhead_4 (by decide) (fun c4 => ?_) (fun c4 => ?_)
  · replace h := if_t h c4
    refine gw_iconst 37 hC dX8_isAhead_37 ?_
    exact gw_zret 38 hC dX8_isAhead_38 (by decide) h
  · replace h := if_f h c4
    refine gw_iload_n 7 1 hC dX8_isAhead_7 rfl ?_
    refine gw_i2l 8 hC dX8_isAhead_8 ?_
    refine gw_iload_n 9 2 hC dX8_isAhead_9 rfl ?_
    refine gw_i2l 10 hC dX8_isAhead_10 ?_
    refine gw_iload_n 11 3 hC dX8_isAhead_11 rfl ?_
    refine gw_i2l 12 hC dX8_isAhead_12 ?_
    obtain ⟨z5, ez5, h⟩ := opt_e h
    refine gw_callS (As := [Lg (i32 a1), Lg (i32 a2), Lg (i32 a3)]) (rest := []) (st' := [J z5.1]) 13 3 hC (met_isIn ez5 l) (lw_S q2123 q2124 q161 q2125) (by decide +kernel) (by decide) rfl rfl (Nat.le_of_ble_eq_true rfl) dX8_isAhead_13 rfl ?_
    refine gw_if_eq 16 37 hC dX8_isAhead_16 (by decide) (fun c6 => ?_) (fun c6 => ?_)
    · replace h := if_t h c6
      refine gw_iconst 37 hC dX8_isAhead_37 ?_
      exact gw_zret 38 hC dX8_isAhead_38 (by decide) h
    · replace h := if_f h c6
      refine gw_aload_n 19 0 hC dX8_isAhead_19 rfl ?_
      refine mg_48 20 hC dX8_isAhead_20 ?_
      refine gw_iconst 23 hC dX8_isAhead_23 ?_
      obtain ⟨g7, h⟩ := gd_e h
      refine m_iald 24 48 hC (by decide) rfl g7 dX8_isAhead_24 ?_
      refine gw_iload_n 25 1 hC dX8_isAhead_25 rfl ?_
      refine gw_iadd 26 hC dX8_isAhead_26 ?_
      refine gw_sipush 27 hC dX8_isAhead_27 (by decide) ?_
      refine gw_icmp_gt 30 37 hC dX8_isAhead_30 (by decide) (fun c8 => ?_) (fun c8 => ?_)
      · replace h := if_t h c8
        refine gw_iconst 37 hC dX8_isAhead_37 ?_
        exact gw_zret 38 hC dX8_isAhead_38 (by decide) h
      · replace h := if_f h c8
        refine gw_iconst 33 hC dX8_isAhead_33 ?_
        refine gw_goto 34 38 hC dX8_isAhead_34 (by decide) ?_
        exact gw_zret 38 hC dX8_isAhead_38 (by decide) h
/-! givesNone()V -/
noncomputable def m_givesNone_L2 (k21 : MS → Option (Int × MS)) : Nat → Int → MS → Option (Int × MS)
  | 0, _, _ => none
  | n + 1, x1_2, s3 =>
    if i32 6 ≤ i32 x1_2 then
      k21 s3
    else
      gd (ok 6 x1_2) <|
      bnd (up s3 62 (i32 x1_2) (-1)) fun s7 =>
      bnd (x1_2 + 1) fun x1_8 =>
      m_givesNone_L2 k21 n x1_8 s7
noncomputable def m_givesNone (s0 : MS) : Option (Int × MS) :=
  bnd 0 fun x1_1 =>
  m_givesNone_L2
    (fun (s9 : MS) =>
      some (0, s9))
    FU x1_1 s0
theorem wm_givesNone_L2 {p : Program} {l : Launch} {e : Env} {s : State} {m : MethodId} {args : Array Value} {below : List Frame} {meth : Method} {c : Code} {D : MD} {o : Nat} {res : Int × MS} {k21 : MS → Option (Int × MS)} (hC : GC p s m args meth c cX8_givesNone RX8 2 none (MK D)) (hk21 : ∀ (s4 : MS), k21 s4 = some res → GW p l e (rmd 1) s m args below meth c 2 (mAd o) (MRp D o) (MK D) 0 res s4 21 [] []) : ∀ (n : Nat) (x1_2 : Int) (s3 : MS), m_givesNone_L2 k21 n x1_2 s3 = some res → GW p l e (rmd 1) s m args below meth c 2 (mAd o) (MRp D o) (MK D) 0 res s3 2 [(0, .ref o), (1, J x1_2)] [] := by
  intro n
  induction n with
  | zero =>
    intro x1_2 s3 h
    cases h
  | succ n ih =>
    intro x1_2 s3 h
    rw [m_givesNone_L2] at h
    refine gw_iload_n 2 1 hC dX8_givesNone_2 rfl ?_
    refine gw_bipush 3 hC dX8_givesNone_3 (by decide) ?_
    refine gw_icmp_ge 5 21 hC dX8_givesNone_5 (by decide) (fun c5 => ?_) (fun c5 => ?_)
    · replace h := if_t h c5
      refine gw_sub [] rfl ?_
      exact hk21 _ h
    · replace h := if_f h c5
      refine gw_aload_n 8 0 hC dX8_givesNone_8 rfl ?_
      refine mg_62 9 hC dX8_givesNone_9 ?_
      refine gw_iload_n 12 1 hC dX8_givesNone_12 rfl ?_
      refine gw_iconst 13 hC dX8_givesNone_13 ?_
      obtain ⟨g6, h⟩ := gd_e h
      obtain ⟨s7, es7, h⟩ := bnd_e h
      refine m_iast 14 62 hC (MIn_self o) (by decide) rfl g6 es7 dX8_givesNone_14 ?_
      obtain ⟨x1_8, ex1_8, h⟩ := bnd_e h
      refine gw_iinc 15 1 [(1, J x1_8), (0, .ref o)] hC dX8_givesNone_15 rfl ex1_8 (by decide) rfl ?_
      refine gw_goto 18 2 hC dX8_givesNone_18 (by decide) ?_
      refine gw_sub [1, 0] rfl ?_
      exact ih _ _ h
theorem met_givesNone {D : MD} {o : Nat} {s0 : MS} {res : Int × MS} (h : m_givesNone s0 = some res) (l : Launch) : GMet l yX8_givesNone cX8_givesNone 2 none 1 (MRp D o) (MK D) (mAd o) [.ref o] s0 0 res := by
  refine GMet.of [(0, .ref o)] (by decide) (MK_moved D) (Nat.le_of_ble_eq_true rfl) rfl ?_
  intro p e s m args below meth c hC
  have hC : GC p s m args meth c cX8_givesNone RX8 2 none (MK D) := hC
  unfold m_givesNone at h
  refine gw_iconst 0 hC dX8_givesNone_0 ?_
  obtain ⟨x1_1, ex1_1, h⟩ := bnd_e h
  refine gw_istore_n 1 [(1, J x1_1), (0, .ref o)] hC dX8_givesNone_1 (by decide) ex1_1 rfl ?_
  refine gw_sub [1, 0] rfl ?_
  refine wm_givesNone_L2 hC (fun s9 h => ?_) FU _ _ h
  · exact gw_vret 21 hC dX8_givesNone_21 h
/-! turnedOf(II)I -/
noncomputable def m_turnedOf (a1 : Int) (a2 : Int) (s0 : MS) : Option (Int × MS) :=
  gd (ok 6 5) <|
  if i32 (s0 41 (i32 5)) = i32 (-1) then
    Option.bind (m_toneOf a1 s0) fun z9 =>
    some (z9.1, z9.2)
  else
    Option.bind (m_codesTell 2 a1 a2 s0) fun z5 =>
    bnd z5.1 fun x3_6 =>
    if i64 0 ≤ i64 x3_6 then
      if i64 x3_6 ≤ i64 9 then
        some (x3_6, z5.2)
      else
        some (9, z5.2)
    else
      some (0, z5.2)
theorem met_turnedOf {D : MD} {o : Nat} {a1 : Int} {a2 : Int} {s0 : MS} {res : Int × MS} (h : m_turnedOf a1 a2 s0 = some res) (l : Launch) : GMet l yX8_turnedOf cX8_turnedOf 5 (some .int) 4 (MRp D o) (MK D) (mAd o) [.ref o, J a1, J a2] s0 1 res := by
  refine GMet.of [(0, .ref o), (1, J a1), (2, J a2)] (by decide) (MK_moved D) (Nat.le_of_ble_eq_true rfl) rfl ?_
  intro p e s m args below meth c hC
  have hC : GC p s m args meth c cX8_turnedOf RX8 5 (some .int) (MK D) := hC
  unfold m_turnedOf at h
  refine gw_aload_n 0 0 hC dX8_turnedOf_0 rfl ?_
  refine mg_41 1 hC dX8_turnedOf_1 ?_
  refine gw_iconst 4 hC dX8_turnedOf_4 ?_
  obtain ⟨g3, h⟩ := gd_e h
  refine m_iald 5 41 hC (by decide) rfl g3 dX8_turnedOf_5 ?_
  refine gw_iconst 6 hC dX8_turnedOf_6 ?_
  refine gw_icmp_ne 7 16 hC dX8_turnedOf_7 (by decide) (fun c4 => ?_) (fun c4 => ?_)
  · replace h := if_f h c4
    refine gw_aload_n 16 0 hC dX8_turnedOf_16 rfl ?_
    refine gw_iconst 17 hC dX8_turnedOf_17 ?_
    refine gw_iload_n 18 1 hC dX8_turnedOf_18 rfl ?_
    refine gw_iload_n 19 2 hC dX8_turnedOf_19 rfl ?_
    obtain ⟨z5, ez5, h⟩ := opt_e h
    refine gw_callV (As := [J 2, J a1, J a2]) (rest := []) (st' := [Lg z5.1]) 20 3 hC (met_codesTell ez5 l) (lw_V q2312 q2314 qs102 q161 q2315) (by decide +kernel) (by decide) (m_recv hC) rfl rfl (Nat.le_of_ble_eq_true rfl) dX8_turnedOf_20 rfl ?_
    obtain ⟨x3_6, ex3_6, h⟩ := bnd_e h
    refine gw_lstore_n 23 [(3, Lg x3_6), (0, .ref o), (1, J a1), (2, J a2)] hC dX8_turnedOf_23 (by decide) ex3_6 rfl ?_
    refine gw_lload_n 24 0 hC dX8_turnedOf_24 rfl ?_
    refine gw_lconst (v := 0) 25 hC dX8_turnedOf_25 (by decide) ?_
    refine gw_lcmp_ge 26 34 hC dX8_turnedOf_26 dX8_turnedOf_27 (by decide) (fun c7 => ?_) (fun c7 => ?_)
    · replace h := if_t h c7
      refine gw_lload_n 34 0 hC dX8_turnedOf_34 rfl ?_
      refine gw_ldc2 (v := 9) 35 hC dX8_turnedOf_35 q2487 (by decide) ?_
      refine gw_lcmp_le 38 47 hC dX8_turnedOf_38 dX8_turnedOf_39 (by decide) (fun c8 => ?_) (fun c8 => ?_)
      · replace h := if_t h c8
        refine gw_lload_n 47 0 hC dX8_turnedOf_47 rfl ?_
        refine gw_l2i 48 hC dX8_turnedOf_48 ?_
        exact gw_iret 49 hC dX8_turnedOf_49 h
      · replace h := if_f h c8
        refine gw_bipush 42 hC dX8_turnedOf_42 (by decide) ?_
        refine gw_goto 44 49 hC dX8_turnedOf_44 (by decide) ?_
        exact gw_iret 49 hC dX8_turnedOf_49 h
    · replace h := if_f h c7
      refine gw_iconst 30 hC dX8_turnedOf_30 ?_
      refine gw_goto 31 49 hC dX8_turnedOf_31 (by decide) ?_
      exact gw_iret 49 hC dX8_turnedOf_49 h
  · replace h := if_t h c4
    refine gw_aload_n 10 0 hC dX8_turnedOf_10 rfl ?_
    refine gw_iload_n 11 1 hC dX8_turnedOf_11 rfl ?_
    obtain ⟨z9, ez9, h⟩ := opt_e h
    refine gw_callV (As := [J a1]) (rest := []) (st' := [J z9.1]) 12 1 hC (met_toneOf ez9 l) (lw_V q2324 q2326 qs105 q161 q2327) (by decide +kernel) (by decide) (m_recv hC) rfl rfl (Nat.le_of_ble_eq_true rfl) dX8_turnedOf_12 rfl ?_
    exact gw_iret 15 hC dX8_turnedOf_15 h
/-! isKept(II)V -/
noncomputable def m_isKept_L23 (k50 : Int → Int → MS → Option (Int × MS)) : Nat → Int → Int → Int → MS → Option (Int × MS)
  | 0, _, _, _, _ => none
  | n + 1, x1_23, x2_24, x3_25, s26 =>
    if i32 216 ≤ i32 x3_25 then
      k50 x1_23 x2_24 s26
    else
      gd (ok 219 (x3_25 + 3)) <|
      gd (ok 219 x3_25) <|
      bnd (up s26 48 (i32 x3_25) (s26 48 (i32 (x3_25 + 3)))) fun s33 =>
      bnd (x3_25 + 1) fun x3_34 =>
      m_isKept_L23 k50 n x1_23 x2_24 x3_34 s33
noncomputable def m_isKept (a1 : Int) (a2 : Int) (s0 : MS) : Option (Int × MS) :=
  if i32 (s0 60 0) = 0 then
    gd (ok 219 68) <|
    bnd (fun (x1_5 : Int) (x2_6 : Int) (s7 : MS) =>
        gd (ok 219 68) <|
        bnd ((69 + (3 * (s7 48 (i32 68)))) - 3) fun x3_9 =>
        gd (ok 219 0) <|
        gd (ok 219 x3_9) <|
        bnd (up s7 48 (i32 x3_9) (s7 48 (i32 0))) fun s12 =>
        gd (ok 219 (x3_9 + 1)) <|
        bnd (up s12 48 (i32 (x3_9 + 1)) x1_5) fun s14 =>
        gd (ok 219 (x3_9 + 2)) <|
        bnd (up s14 48 (i32 (x3_9 + 2)) x2_6) fun s16 =>
        some (0, s16)) fun j17 =>
    if i32 (s0 48 (i32 68)) = i32 50 then
      bnd 69 fun x3_22 =>
      m_isKept_L23
        (fun (x1_35 : Int) (x2_36 : Int) (s37 : MS) =>
          j17 x1_35 x2_36 s37)
        FU a1 a2 x3_22 s0
    else
      gd (ok 219 68) <|
      gd (ok 219 68) <|
      bnd (up s0 48 (i32 68) ((s0 48 (i32 68)) + 1)) fun s21 =>
      j17 a1 a2 s21
  else
    some (0, s0)
theorem wm_isKept_L23 {p : Program} {l : Launch} {e : Env} {s : State} {m : MethodId} {args : Array Value} {below : List Frame} {meth : Method} {c : Code} {D : MD} {o : Nat} {res : Int × MS} {k50 : Int → Int → MS → Option (Int × MS)} (hC : GC p s m args meth c cX8_isKept RX8 4 none (MK D)) (hk50 : ∀ (x1_27 : Int) (x2_28 : Int) (s29 : MS), k50 x1_27 x2_28 s29 = some res → GW p l e (rmd 1) s m args below meth c 4 (mAd o) (MRp D o) (MK D) 0 res s29 50 [(0, .ref o), (1, J x1_27), (2, J x2_28)] []) : ∀ (n : Nat) (x1_23 : Int) (x2_24 : Int) (x3_25 : Int) (s26 : MS), m_isKept_L23 k50 n x1_23 x2_24 x3_25 s26 = some res → GW p l e (rmd 1) s m args below meth c 4 (mAd o) (MRp D o) (MK D) 0 res s26 23 [(0, .ref o), (1, J x1_23), (2, J x2_24), (3, J x3_25)] [] := by
  intro n
  induction n with
  | zero =>
    intro x1_23 x2_24 x3_25 s26 h
    cases h
  | succ n ih =>
    intro x1_23 x2_24 x3_25 s26 h
    rw [m_isKept_L23] at h
    refine gw_iload_n 23 3 hC dX8_isKept_23 rfl ?_
    refine gw_sipush 24 hC dX8_isKept_24 (by decide) ?_
    refine gw_icmp_ge 27 50 hC dX8_isKept_27 (by decide) (fun c30 => ?_) (fun c30 => ?_)
    · replace h := if_t h c30
      refine gw_sub [0, 1, 2] rfl ?_
      exact hk50 _ _ _ h
    · replace h := if_f h c30
      refine gw_aload_n 30 0 hC dX8_isKept_30 rfl ?_
      refine mg_48 31 hC dX8_isKept_31 ?_
      refine gw_iload_n 34 3 hC dX8_isKept_34 rfl ?_
      refine gw_aload_n 35 0 hC dX8_isKept_35 rfl ?_
      refine mg_48 36 hC dX8_isKept_36 ?_
      refine gw_iload_n 39 3 hC dX8_isKept_39 rfl ?_
      refine gw_iconst 40 hC dX8_isKept_40 ?_
      refine gw_iadd 41 hC dX8_isKept_41 ?_
      obtain ⟨g31, h⟩ := gd_e h
      refine m_iald 42 48 hC (by decide) rfl g31 dX8_isKept_42 ?_
      obtain ⟨g32, h⟩ := gd_e h
      obtain ⟨s33, es33, h⟩ := bnd_e h
      refine m_iast 43 48 hC (MIn_self o) (by decide) rfl g32 es33 dX8_isKept_43 ?_
      obtain ⟨x3_34, ex3_34, h⟩ := bnd_e h
      refine gw_iinc 44 3 [(3, J x3_34), (0, .ref o), (1, J x1_23), (2, J x2_24)] hC dX8_isKept_44 rfl ex3_34 (by decide) rfl ?_
      refine gw_goto 47 23 hC dX8_isKept_47 (by decide) ?_
      refine gw_sub [1, 2, 3, 0] rfl ?_
      exact ih _ _ _ _ h
theorem met_isKept {D : MD} {o : Nat} {a1 : Int} {a2 : Int} {s0 : MS} {res : Int × MS} (h : m_isKept a1 a2 s0 = some res) (l : Launch) : GMet l yX8_isKept cX8_isKept 4 none 1 (MRp D o) (MK D) (mAd o) [.ref o, J a1, J a2] s0 0 res := by
  refine GMet.of [(0, .ref o), (1, J a1), (2, J a2)] (by decide) (MK_moved D) (Nat.le_of_ble_eq_true rfl) rfl ?_
  intro p e s m args below meth c hC
  have hC : GC p s m args meth c cX8_isKept RX8 4 none (MK D) := hC
  unfold m_isKept at h
  refine gw_aload_n 0 0 hC dX8_isKept_0 rfl ?_
  refine mg_60 1 hC dX8_isKept_1 ?_
  refine gw_if_eq 4 8 hC dX8_isKept_4 (by decide) (fun c3 => ?_) (fun c3 => ?_)
  · replace h := if_t h c3
    refine gw_aload_n 8 0 hC dX8_isKept_8 rfl ?_
    refine mg_48 9 hC dX8_isKept_9 ?_
    refine gw_bipush 12 hC dX8_isKept_12 (by decide) ?_
    obtain ⟨g4, h⟩ := gd_e h
    refine m_iald 14 48 hC (by decide) rfl g4 dX8_isKept_14 ?_
    refine gw_bipush 15 hC dX8_isKept_15 (by decide) ?_
    obtain ⟨j17, ej17, h⟩ := bnd_e h
    have hj17 : ∀ (x1_5 : Int) (x2_6 : Int) (s7 : MS), j17 x1_5 x2_6 s7 = some res → GW p l e (rmd 1) s m args below meth c 4 (mAd o) (MRp D o) (MK D) 0 res s7 64 [(0, .ref o), (1, J x1_5), (2, J x2_6)] [] := by
      clear h
      intro x1_5 x2_6 s7 h
      subst ej17
      refine gw_bipush 64 hC dX8_isKept_64 (by decide) ?_
      refine gw_iconst 66 hC dX8_isKept_66 ?_
      refine gw_aload_n 67 0 hC dX8_isKept_67 rfl ?_
      refine mg_48 68 hC dX8_isKept_68 ?_
      refine gw_bipush 71 hC dX8_isKept_71 (by decide) ?_
      obtain ⟨g8, h⟩ := gd_e h
      refine m_iald 73 48 hC (by decide) rfl g8 dX8_isKept_73 ?_
      refine gw_imul 74 hC dX8_isKept_74 ?_
      refine gw_iadd 75 hC dX8_isKept_75 ?_
      refine gw_iconst 76 hC dX8_isKept_76 ?_
      refine gw_isub 77 hC dX8_isKept_77 ?_
      obtain ⟨x3_9, ex3_9, h⟩ := bnd_e h
      refine gw_istore_n 78 [(3, J x3_9), (0, .ref o), (1, J x1_5), (2, J x2_6)] hC dX8_isKept_78 (by decide) ex3_9 rfl ?_
      refine gw_aload_n 79 1 hC dX8_isKept_79 rfl ?_
      refine mg_48 80 hC dX8_isKept_80 ?_
      refine gw_iload_n 83 0 hC dX8_isKept_83 rfl ?_
      refine gw_aload_n 84 1 hC dX8_isKept_84 rfl ?_
      refine mg_48 85 hC dX8_isKept_85 ?_
      refine gw_iconst 88 hC dX8_isKept_88 ?_
      obtain ⟨g10, h⟩ := gd_e h
      refine m_iald 89 48 hC (by decide) rfl g10 dX8_isKept_89 ?_
      obtain ⟨g11, h⟩ := gd_e h
      obtain ⟨s12, es12, h⟩ := bnd_e h
      refine m_iast 90 48 hC (MIn_self o) (by decide) rfl g11 es12 dX8_isKept_90 ?_
      refine gw_aload_n 91 1 hC dX8_isKept_91 rfl ?_
      refine mg_48 92 hC dX8_isKept_92 ?_
      refine gw_iload_n 95 0 hC dX8_isKept_95 rfl ?_
      refine gw_iconst 96 hC dX8_isKept_96 ?_
      refine gw_iadd 97 hC dX8_isKept_97 ?_
      refine gw_iload_n 98 2 hC dX8_isKept_98 rfl ?_
      obtain ⟨g13, h⟩ := gd_e h
      obtain ⟨s14, es14, h⟩ := bnd_e h
      refine m_iast 99 48 hC (MIn_self o) (by decide) rfl g13 es14 dX8_isKept_99 ?_
      refine gw_aload_n 100 1 hC dX8_isKept_100 rfl ?_
      refine mg_48 101 hC dX8_isKept_101 ?_
      refine gw_iload_n 104 0 hC dX8_isKept_104 rfl ?_
      refine gw_iconst 105 hC dX8_isKept_105 ?_
      refine gw_iadd 106 hC dX8_isKept_106 ?_
      refine gw_iload_n 107 3 hC dX8_isKept_107 rfl ?_
      obtain ⟨g15, h⟩ := gd_e h
      obtain ⟨s16, es16, h⟩ := bnd_e h
      refine m_iast 108 48 hC (MIn_self o) (by decide) rfl g15 es16 dX8_isKept_108 ?_
      exact gw_vret 109 hC dX8_isKept_109 h
    refine gw_icmp_ne 17 53 hC dX8_isKept_17 (by decide) (fun c18 => ?_) (fun c18 => ?_)
    · replace h := if_f h c18
      refine gw_aload_n 53 0 hC dX8_isKept_53 rfl ?_
      refine mg_48 54 hC dX8_isKept_54 ?_
      refine gw_bipush 57 hC dX8_isKept_57 (by decide) ?_
      refine gw_dup2 59 hC dX8_isKept_59 rfl rfl ?_
      obtain ⟨g19, h⟩ := gd_e h
      refine m_iald 60 48 hC (by decide) rfl g19 dX8_isKept_60 ?_
      refine gw_iconst 61 hC dX8_isKept_61 ?_
      refine gw_iadd 62 hC dX8_isKept_62 ?_
      obtain ⟨g20, h⟩ := gd_e h
      obtain ⟨s21, es21, h⟩ := bnd_e h
      refine m_iast 63 48 hC (MIn_self o) (by decide) rfl g20 es21 dX8_isKept_63 ?_
      refine gw_sub [0, 1, 2] rfl ?_
      exact hj17 _ _ _ h
    · replace h := if_t h c18
      refine gw_bipush 20 hC dX8_isKept_20 (by decide) ?_
      obtain ⟨x3_22, ex3_22, h⟩ := bnd_e h
      refine gw_istore_n 22 [(3, J x3_22), (0, .ref o), (1, J a1), (2, J a2)] hC dX8_isKept_22 (by decide) ex3_22 rfl ?_
      refine gw_sub [1, 2, 3, 0] rfl ?_
      refine wm_isKept_L23 hC (fun x1_35 x2_36 s37 h => ?_) FU _ _ _ _ h
      · refine gw_goto 50 64 hC dX8_isKept_50 (by decide) ?_
        refine gw_sub [0, 1, 2] rfl ?_
        exact hj17 _ _ _ h
  · replace h := if_f h c3
    exact gw_vret 7 hC dX8_isKept_7 h
/-! gives(II)V -/
noncomputable def m_gives (a1 : Int) (a2 : Int) (s0 : MS) : Option (Int × MS) :=
  gd (ok 6 a1) <|
  bnd (up s0 62 (i32 a1) a2) fun s4 =>
  bnd (((8 + (10 * a1)) + 3) + a2) fun x3_5 =>
  gd (ok 219 x3_5) <|
  bnd (fun (x1_7 : Int) (x2_8 : Int) (s9 : MS) =>
      Option.bind (m_turnedOf x1_7 x2_8 s9) fun z10 =>
      gd (ok 219 ((8 + (10 * x1_7)) + 2)) <|
      bnd (up z10.2 48 (i32 ((8 + (10 * x1_7)) + 2)) z10.1) fun s12 =>
      bnd (up s12 61 0 ((s12 61 0) + 1)) fun s13 =>
      Option.bind (m_isKept x1_7 x2_8 s13) fun z14 =>
      some (0, z14.2)) fun j15 =>
  if i32 99 ≤ i32 (s4 48 (i32 x3_5)) then
    j15 a1 a2 s4
  else
    gd (ok 219 x3_5) <|
    gd (ok 219 x3_5) <|
    bnd (up s4 48 (i32 x3_5) ((s4 48 (i32 x3_5)) + 1)) fun s19 =>
    j15 a1 a2 s19
theorem met_gives {D : MD} {o : Nat} {a1 : Int} {a2 : Int} {s0 : MS} {res : Int × MS} (h : m_gives a1 a2 s0 = some res) (l : Launch) : GMet l yX8_gives cX8_gives 4 none 5 (MRp D o) (MK D) (mAd o) [.ref o, J a1, J a2] s0 0 res := by
  refine GMet.of [(0, .ref o), (1, J a1), (2, J a2)] (by decide) (MK_moved D) (Nat.le_of_ble_eq_true rfl) rfl ?_
  intro p e s m args below meth c hC
  have hC : GC p s m args meth c cX8_gives RX8 4 none (MK D) := hC
  unfold m_gives at h
  refine gw_aload_n 0 0 hC dX8_gives_0 rfl ?_
  refine mg_62 1 hC dX8_gives_1 ?_
  refine gw_iload_n 4 1 hC dX8_gives_4 rfl ?_
  refine gw_iload_n 5 2 hC dX8_gives_5 rfl ?_
  obtain ⟨g3, h⟩ := gd_e h
  obtain ⟨s4, es4, h⟩ := bnd_e h
  refine m_iast 6 62 hC (MIn_self o) (by decide) rfl g3 es4 dX8_gives_6 ?_
  refine gw_bipush 7 hC dX8_gives_7 (by decide) ?_
  refine gw_bipush 9 hC dX8_gives_9 (by decide) ?_
  refine gw_iload_n 11 1 hC dX8_gives_11 rfl ?_
  refine gw_imul 12 hC dX8_gives_12 ?_
  refine gw_iadd 13 hC dX8_gives_13 ?_
  refine gw_iconst 14 hC dX8_gives_14 ?_
  refine gw_iadd 15 hC dX8_gives_15 ?_
  refine gw_iload_n 16 2 hC dX8_gives_16 rfl ?_
  refine gw_iadd 17 hC dX8_gives_17 ?_
  obtain ⟨x3_5, ex3_5, h⟩ := bnd_e h
  refine gw_istore_n 18 [(3, J x3_5), (0, .ref o), (1, J a1), (2, J a2)] hC dX8_gives_18 (by decide) ex3_5 rfl ?_
  refine gw_aload_n 19 1 hC dX8_gives_19 rfl ?_
  refine mg_48 20 hC dX8_gives_20 ?_
  refine gw_iload_n 23 0 hC dX8_gives_23 rfl ?_
  obtain ⟨g6, h⟩ := gd_e h
  refine m_iald 24 48 hC (by decide) rfl g6 dX8_gives_24 ?_
  refine gw_bipush 25 hC dX8_gives_25 (by decide) ?_
  obtain ⟨j15, ej15, h⟩ := bnd_e h
  have hj15 : ∀ (x1_7 : Int) (x2_8 : Int) (s9 : MS), j15 x1_7 x2_8 s9 = some res → GW p l e (rmd 5) s m args below meth c 4 (mAd o) (MRp D o) (MK D) 0 res s9 40 [(0, .ref o), (1, J x1_7), (2, J x2_8)] [] := by
    clear h
    intro x1_7 x2_8 s9 h
    subst ej15
    refine gw_aload_n 40 0 hC dX8_gives_40 rfl ?_
    refine mg_48 41 hC dX8_gives_41 ?_
    refine gw_bipush 44 hC dX8_gives_44 (by decide) ?_
    refine gw_bipush 46 hC dX8_gives_46 (by decide) ?_
    refine gw_iload_n 48 1 hC dX8_gives_48 rfl ?_
    refine gw_imul 49 hC dX8_gives_49 ?_
    refine gw_iadd 50 hC dX8_gives_50 ?_
    refine gw_iconst 51 hC dX8_gives_51 ?_
    refine gw_iadd 52 hC dX8_gives_52 ?_
    refine gw_aload_n 53 0 hC dX8_gives_53 rfl ?_
    refine gw_iload_n 54 1 hC dX8_gives_54 rfl ?_
    refine gw_iload_n 55 2 hC dX8_gives_55 rfl ?_
    obtain ⟨z10, ez10, h⟩ := opt_e h
    refine gw_callV (As := [J x1_7, J x2_8]) (rest := [J ((8 + (10 * x1_7)) + 2), .ref (o + mO 48)]) (st' := [J z10.1, J ((8 + (10 * x1_7)) + 2), .ref (o + mO 48)]) 56 2 hC (met_turnedOf ez10 l) (lw_V q2483 q2485 qs130 q161 q2486) (by decide +kernel) (by decide) (m_recv hC) rfl rfl (Nat.le_of_ble_eq_true rfl) dX8_gives_56 rfl ?_
    obtain ⟨g11, h⟩ := gd_e h
    obtain ⟨s12, es12, h⟩ := bnd_e h
    refine m_iast 59 48 hC (MIn_self o) (by decide) rfl g11 es12 dX8_gives_59 ?_
    refine gw_aload_n 60 0 hC dX8_gives_60 rfl ?_
    refine gw_dup 61 hC dX8_gives_61 rfl ?_
    refine mg_61 62 hC dX8_gives_62 ?_
    refine gw_iconst 65 hC dX8_gives_65 ?_
    refine gw_iadd 66 hC dX8_gives_66 ?_
    obtain ⟨s13, es13, h⟩ := bnd_e h
    refine mp_61 67 hC (MIn_self o) es13 dX8_gives_67 ?_
    refine gw_aload_n 70 0 hC dX8_gives_70 rfl ?_
    refine gw_iload_n 71 1 hC dX8_gives_71 rfl ?_
    refine gw_iload_n 72 2 hC dX8_gives_72 rfl ?_
    obtain ⟨z14, ez14, h⟩ := opt_e h
    refine gw_callV (As := [J x1_7, J x2_8]) (rest := []) (st' := []) 73 2 hC (met_isKept ez14 l) (lw_V q2488 q2490 qs131 q161 q2491) (by decide +kernel) (by decide) (m_recv hC) rfl rfl (Nat.le_of_ble_eq_true rfl) dX8_gives_73 rfl ?_
    exact gw_vret 76 hC dX8_gives_76 h
  refine gw_icmp_ge 27 40 hC dX8_gives_27 (by decide) (fun c16 => ?_) (fun c16 => ?_)
  · replace h := if_t h c16
    refine gw_sub [1, 2, 3] rfl ?_
    exact hj15 _ _ _ h
  · replace h := if_f h c16
    refine gw_aload_n 30 1 hC dX8_gives_30 rfl ?_
    refine mg_48 31 hC dX8_gives_31 ?_
    refine gw_iload_n 34 0 hC dX8_gives_34 rfl ?_
    refine gw_dup2 35 hC dX8_gives_35 rfl rfl ?_
    obtain ⟨g17, h⟩ := gd_e h
    refine m_iald 36 48 hC (by decide) rfl g17 dX8_gives_36 ?_
    refine gw_iconst 37 hC dX8_gives_37 ?_
    refine gw_iadd 38 hC dX8_gives_38 ?_
    obtain ⟨g18, h⟩ := gd_e h
    obtain ⟨s19, es19, h⟩ := bnd_e h
    refine m_iast 39 48 hC (MIn_self o) (by decide) rfl g18 es19 dX8_gives_39 ?_
    refine gw_sub [1, 2, 3] rfl ?_
    exact hj15 _ _ _ h
/-! dayGoes()V -/
noncomputable def m_dayGoes_L19 (k59 : MS → Option (Int × MS)) : Nat → Int → Int → MS → Option (Int × MS)
  | 0, _, _, _ => none
  | n + 1, x1_7, x2_8, s9 =>
    Option.bind (m_sayingMany s9) fun z11 =>
    if i32 z11.1 ≤ i32 x2_8 then
      k59 z11.2
    else
      if i32 (z11.2 55 0) = 0 then
        k59 z11.2
      else
        bnd (fun (x1_14 : Int) (x2_15 : Int) (s16 : MS) =>
            bnd (x2_15 + 1) fun x2_17 =>
            m_dayGoes_L19 k59 n x1_14 x2_17 s16) fun j18 =>
        if i32 (iand (ishr x1_7 x2_8) 1) = 0 then
          gd (ok 6 x2_8) <|
          Option.bind (m_gives x2_8 (z11.2 54 (i32 x2_8)) z11.2) fun z21 =>
          j18 x1_7 x2_8 z21.2
        else
          j18 x1_7 x2_8 z11.2
noncomputable def m_dayGoes (s0 : MS) : Option (Int × MS) :=
  Option.bind (m_givesNone s0) fun z1 =>
  Option.bind (m_laysGiving z1.2) fun z2 =>
  Option.bind (m_laysRound z2.2) fun z3 =>
  Option.bind (m_darkSet z3.2) fun z4 =>
  bnd z4.1 fun x1_5 =>
  bnd 0 fun x2_6 =>
  m_dayGoes_L19
    (fun (s22 : MS) =>
      gd (ok 219 0) <|
      gd (ok 219 0) <|
      bnd (up s22 48 (i32 0) ((s22 48 (i32 0)) + 1)) fun s25 =>
      some (0, s25))
    FU x1_5 x2_6 z4.2
theorem wm_dayGoes_L19 {p : Program} {l : Launch} {e : Env} {s : State} {m : MethodId} {args : Array Value} {below : List Frame} {meth : Method} {c : Code} {D : MD} {o : Nat} {res : Int × MS} {k59 : MS → Option (Int × MS)} (hC : GC p s m args meth c cX8_dayGoes RX8 3 none (MK D)) (hk59 : ∀ (s10 : MS), k59 s10 = some res → GW p l e (rmd 7) s m args below meth c 3 (mAd o) (MRp D o) (MK D) 0 res s10 59 [(0, .ref o)] []) : ∀ (n : Nat) (x1_7 : Int) (x2_8 : Int) (s9 : MS), m_dayGoes_L19 k59 n x1_7 x2_8 s9 = some res → GW p l e (rmd 7) s m args below meth c 3 (mAd o) (MRp D o) (MK D) 0 res s9 19 [(0, .ref o), (1, J x1_7), (2, J x2_8)] [] := by
  intro n
  induction n with
  | zero =>
    intro x1_7 x2_8 s9 h
    cases h
  | succ n ih =>
    intro x1_7 x2_8 s9 h
    rw [m_dayGoes_L19] at h
    refine gw_iload_n 19 2 hC dX8_dayGoes_19 rfl ?_
    refine gw_aload_n 20 0 hC dX8_dayGoes_20 rfl ?_
    obtain ⟨z11, ez11, h⟩ := opt_e h
    refine gw_callV (As := []) (rest := [J x2_8]) (st' := [J z11.1, J x2_8]) 21 0 hC (met_sayingMany ez11 l) (lw_V q2278 q2280 qs96 q161 q2281) (by decide +kernel) (by decide) (m_recv hC) rfl rfl (Nat.le_of_ble_eq_true rfl) dX8_dayGoes_21 rfl ?_
    refine gw_icmp_ge 24 59 hC dX8_dayGoes_24 (by decide) (fun c12 => ?_) (fun c12 => ?_)
    · replace h := if_t h c12
      refine gw_sub [0] rfl ?_
      exact hk59 _ h
    · replace h := if_f h c12
      refine gw_aload_n 27 0 hC dX8_dayGoes_27 rfl ?_
      refine mg_55 28 hC dX8_dayGoes_28 ?_
      refine gw_if_eq 31 59 hC dX8_dayGoes_31 (by decide) (fun c13 => ?_) (fun c13 => ?_)
      · replace h := if_t h c13
        refine gw_sub [0] rfl ?_
        exact hk59 _ h
      · replace h := if_f h c13
        refine gw_iload_n 34 1 hC dX8_dayGoes_34 rfl ?_
        refine gw_iload_n 35 2 hC dX8_dayGoes_35 rfl ?_
        refine gw_ishr 36 hC dX8_dayGoes_36 ?_
        refine gw_iconst 37 hC dX8_dayGoes_37 ?_
        refine gw_iand 38 hC dX8_dayGoes_38 ?_
        obtain ⟨j18, ej18, h⟩ := bnd_e h
        have hj18 : ∀ (x1_14 : Int) (x2_15 : Int) (s16 : MS), j18 x1_14 x2_15 s16 = some res → GW p l e (rmd 7) s m args below meth c 3 (mAd o) (MRp D o) (MK D) 0 res s16 53 [(0, .ref o), (1, J x1_14), (2, J x2_15)] [] := by
          clear h
          intro x1_14 x2_15 s16 h
          subst ej18
          obtain ⟨x2_17, ex2_17, h⟩ := bnd_e h
          refine gw_iinc 53 2 [(2, J x2_17), (0, .ref o), (1, J x1_14)] hC dX8_dayGoes_53 rfl ex2_17 (by decide) rfl ?_
          refine gw_goto 56 19 hC dX8_dayGoes_56 (by decide) ?_
          refine gw_sub [1, 2, 0] rfl ?_
          exact ih _ _ _ h
        refine gw_if_ne 39 53 hC dX8_dayGoes_39 (by decide) (fun c19 => ?_) (fun c19 => ?_)
        · replace h := if_f h c19
          refine gw_sub [0, 1, 2] rfl ?_
          exact hj18 _ _ _ h
        · replace h := if_t h c19
          refine gw_aload_n 42 0 hC dX8_dayGoes_42 rfl ?_
          refine gw_iload_n 43 2 hC dX8_dayGoes_43 rfl ?_
          refine gw_aload_n 44 0 hC dX8_dayGoes_44 rfl ?_
          refine mg_54 45 hC dX8_dayGoes_45 ?_
          refine gw_iload_n 48 2 hC dX8_dayGoes_48 rfl ?_
          obtain ⟨g20, h⟩ := gd_e h
          refine m_iald 49 54 hC (by decide) rfl g20 dX8_dayGoes_49 ?_
          obtain ⟨z21, ez21, h⟩ := opt_e h
          refine gw_callV (As := [J x2_8, J (z11.2 54 (i32 x2_8))]) (rest := []) (st' := []) 50 2 hC (met_gives ez21 l) (lw_V q2479 q2481 qs129 q161 q2482) (by decide +kernel) (by decide) (m_recv hC) rfl rfl (Nat.le_of_ble_eq_true rfl) dX8_dayGoes_50 rfl ?_
          refine gw_sub [0, 1, 2] rfl ?_
          exact hj18 _ _ _ h
theorem met_dayGoes {D : MD} {o : Nat} {s0 : MS} {res : Int × MS} (h : m_dayGoes s0 = some res) (l : Launch) : GMet l yX8_dayGoes cX8_dayGoes 3 none 7 (MRp D o) (MK D) (mAd o) [.ref o] s0 0 res := by
  refine GMet.of [(0, .ref o)] (by decide) (MK_moved D) (Nat.le_of_ble_eq_true rfl) rfl ?_
  intro p e s m args below meth c hC
  have hC : GC p s m args meth c cX8_dayGoes RX8 3 none (MK D) := hC
  unfold m_dayGoes at h
  refine gw_aload_n 0 0 hC dX8_dayGoes_0 rfl ?_
  obtain ⟨z1, ez1, h⟩ := opt_e h
  refine gw_callV (As := []) (rest := []) (st' := []) 1 0 hC (met_givesNone ez1 l) (lw_V q2475 q2477 qs128 q161 q2478) (by decide +kernel) (by decide) (m_recv hC) rfl rfl (Nat.le_of_ble_eq_true rfl) dX8_dayGoes_1 rfl ?_
  refine gw_aload_n 4 0 hC dX8_dayGoes_4 rfl ?_
  obtain ⟨z2, ez2, h⟩ := opt_e h
  refine gw_callV (As := []) (rest := []) (st' := []) 5 0 hC (met_laysGiving ez2 l) (lw_V q2300 q2302 qs99 q161 q2303) (by decide +kernel) (by decide) (m_recv hC) rfl rfl (Nat.le_of_ble_eq_true rfl) dX8_dayGoes_5 rfl ?_
  refine gw_aload_n 8 0 hC dX8_dayGoes_8 rfl ?_
  obtain ⟨z3, ez3, h⟩ := opt_e h
  refine gw_callV (As := []) (rest := []) (st' := []) 9 0 hC (met_laysRound ez3 l) (lw_V q2365 q2367 qs113 q161 q2368) (by decide +kernel) (by decide) (m_recv hC) rfl rfl (Nat.le_of_ble_eq_true rfl) dX8_dayGoes_9 rfl ?_
  refine gw_aload_n 12 0 hC dX8_dayGoes_12 rfl ?_
  obtain ⟨z4, ez4, h⟩ := opt_e h
  refine gw_callV (As := []) (rest := []) (st' := [J z4.1]) 13 0 hC (met_darkSet ez4 l) (lw_V q2381 q2383 qs117 q161 q2384) (by decide +kernel) (by decide) (m_recv hC) rfl rfl (Nat.le_of_ble_eq_true rfl) dX8_dayGoes_13 rfl ?_
  obtain ⟨x1_5, ex1_5, h⟩ := bnd_e h
  refine gw_istore_n 16 [(1, J x1_5), (0, .ref o)] hC dX8_dayGoes_16 (by decide) ex1_5 rfl ?_
  refine gw_iconst 17 hC dX8_dayGoes_17 ?_
  obtain ⟨x2_6, ex2_6, h⟩ := bnd_e h
  refine gw_istore_n 18 [(2, J x2_6), (1, J x1_5), (0, .ref o)] hC dX8_dayGoes_18 (by decide) ex2_6 rfl ?_
  refine gw_sub [2, 1, 0] rfl ?_
  refine wm_dayGoes_L19 hC (fun s22 h => ?_) FU _ _ _ h
  · refine gw_aload_n 59 0 hC dX8_dayGoes_59 rfl ?_
    refine mg_48 60 hC dX8_dayGoes_60 ?_
    refine gw_iconst 63 hC dX8_dayGoes_63 ?_
    refine gw_dup2 64 hC dX8_dayGoes_64 rfl rfl ?_
    obtain ⟨g23, h⟩ := gd_e h
    refine m_iald 65 48 hC (by decide) rfl g23 dX8_dayGoes_65 ?_
    refine gw_iconst 66 hC dX8_dayGoes_66 ?_
    refine gw_iadd 67 hC dX8_dayGoes_67 ?_
    obtain ⟨g24, h⟩ := gd_e h
    obtain ⟨s25, es25, h⟩ := bnd_e h
    refine m_iast 68 48 hC (MIn_self o) (by decide) rfl g24 es25 dX8_dayGoes_68 ?_
    exact gw_vret 69 hC dX8_dayGoes_69 h
/-! daysGo(I)V -/
noncomputable def m_daysGo_L2 (k17 : MS → Option (Int × MS)) : Nat → Int → Int → MS → Option (Int × MS)
  | 0, _, _, _ => none
  | n + 1, x1_3, x2_4, s5 =>
    if i32 x1_3 ≤ i32 x2_4 then
      k17 s5
    else
      Option.bind (m_dayGoes s5) fun z8 =>
      bnd (x2_4 + 1) fun x2_9 =>
      m_daysGo_L2 k17 n x1_3 x2_9 z8.2
noncomputable def m_daysGo (a1 : Int) (s0 : MS) : Option (Int × MS) :=
  bnd 0 fun x2_2 =>
  m_daysGo_L2
    (fun (s10 : MS) =>
      some (0, s10))
    FU a1 x2_2 s0
theorem wm_daysGo_L2 {p : Program} {l : Launch} {e : Env} {s : State} {m : MethodId} {args : Array Value} {below : List Frame} {meth : Method} {c : Code} {D : MD} {o : Nat} {res : Int × MS} {k17 : MS → Option (Int × MS)} (hC : GC p s m args meth c cX8_daysGo RX8 3 none (MK D)) (hk17 : ∀ (s6 : MS), k17 s6 = some res → GW p l e (rmd 8) s m args below meth c 3 (mAd o) (MRp D o) (MK D) 0 res s6 17 [] []) : ∀ (n : Nat) (x1_3 : Int) (x2_4 : Int) (s5 : MS), m_daysGo_L2 k17 n x1_3 x2_4 s5 = some res → GW p l e (rmd 8) s m args below meth c 3 (mAd o) (MRp D o) (MK D) 0 res s5 2 [(0, .ref o), (1, J x1_3), (2, J x2_4)] [] := by
  intro n
  induction n with
  | zero =>
    intro x1_3 x2_4 s5 h
    cases h
  | succ n ih =>
    intro x1_3 x2_4 s5 h
    rw [m_daysGo_L2] at h
    refine gw_iload_n 2 2 hC dX8_daysGo_2 rfl ?_
    refine gw_iload_n 3 1 hC dX8_daysGo_3 rfl ?_
    refine gw_icmp_ge 4 17 hC dX8_daysGo_4 (by decide) (fun c7 => ?_) (fun c7 => ?_)
    · replace h := if_t h c7
      refine gw_sub [] rfl ?_
      exact hk17 _ h
    · replace h := if_f h c7
      refine gw_aload_n 7 0 hC dX8_daysGo_7 rfl ?_
      obtain ⟨z8, ez8, h⟩ := opt_e h
      refine gw_callV (As := []) (rest := []) (st' := []) 8 0 hC (met_dayGoes ez8 l) (lw_V q2471 q2473 qs127 q161 q2474) (by decide +kernel) (by decide) (m_recv hC) rfl rfl (Nat.le_of_ble_eq_true rfl) dX8_daysGo_8 rfl ?_
      obtain ⟨x2_9, ex2_9, h⟩ := bnd_e h
      refine gw_iinc 11 2 [(2, J x2_9), (0, .ref o), (1, J x1_3)] hC dX8_daysGo_11 rfl ex2_9 (by decide) rfl ?_
      refine gw_goto 14 2 hC dX8_daysGo_14 (by decide) ?_
      refine gw_sub [1, 2, 0] rfl ?_
      exact ih _ _ _ h
theorem met_daysGo {D : MD} {o : Nat} {a1 : Int} {s0 : MS} {res : Int × MS} (h : m_daysGo a1 s0 = some res) (l : Launch) : GMet l yX8_daysGo cX8_daysGo 3 none 8 (MRp D o) (MK D) (mAd o) [.ref o, J a1] s0 0 res := by
  refine GMet.of [(0, .ref o), (1, J a1)] (by decide) (MK_moved D) (Nat.le_of_ble_eq_true rfl) rfl ?_
  intro p e s m args below meth c hC
  have hC : GC p s m args meth c cX8_daysGo RX8 3 none (MK D) := hC
  unfold m_daysGo at h
  refine gw_iconst 0 hC dX8_daysGo_0 ?_
  obtain ⟨x2_2, ex2_2, h⟩ := bnd_e h
  refine gw_istore_n 1 [(2, J x2_2), (0, .ref o), (1, J a1)] hC dX8_daysGo_1 (by decide) ex2_2 rfl ?_
  refine gw_sub [1, 2, 0] rfl ?_
  refine wm_daysGo_L2 hC (fun s10 h => ?_) FU _ _ _ h
  · exact gw_vret 17 hC dX8_daysGo_17 h
/-! later(II)I -/
noncomputable def m_later (a1 : Int) (a2 : Int) (s0 : MS) : Option (Int × MS) :=
  Option.bind (m_isSaying a1 s0) fun z3 =>
  if i32 z3.1 = 0 then
    some ((-1), z3.2)
  else
    Option.bind (m_isIn (i32 a2) 0 60 z3.2) fun z5 =>
    if i32 z5.1 = 0 then
      some ((-1), z5.2)
    else
      Option.bind (m_isAhead (a2 + 1) 1 61 z5.2) fun z7 =>
      if i32 z7.1 = 0 then
        some ((-1), z7.2)
      else
        Option.bind (m_putsAside z7.2) fun z9 =>
        Option.bind (m_daysGo (a2 + 1) z9.2) fun z10 =>
        Option.bind (m_takesBack z10.2) fun z11 =>
        gd (ok 6 a1) <|
        some ((z11.2 62 (i32 a1)), z11.2)
theorem met_later {D : MD} {o : Nat} {a1 : Int} {a2 : Int} {s0 : MS} {res : Int × MS} (h : m_later a1 a2 s0 = some res) (l : Launch) : GMet l yX8_later cX8_later 3 (some .int) 9 (MRp D o) (MK D) (mAd o) [.ref o, J a1, J a2] s0 1 res := by
  refine GMet.of [(0, .ref o), (1, J a1), (2, J a2)] (by decide) (MK_moved D) (Nat.le_of_ble_eq_true rfl) rfl ?_
  intro p e s m args below meth c hC
  have hC : GC p s m args meth c cX8_later RX8 3 (some .int) (MK D) := hC
  unfold m_later at h
  refine gw_aload_n 0 0 hC dX8_later_0 rfl ?_
  refine gw_iload_n 1 1 hC dX8_later_1 rfl ?_
  obtain ⟨z3, ez3, h⟩ := opt_e h
  refine gw_callV (As := [J a1]) (rest := []) (st' := [J z3.1]) 2 1 hC (met_isSaying ez3 l) (lw_V q2295 q2297 qs98 q161 q2298) (by decide +kernel) (by decide) (m_recv hC) rfl rfl (Nat.le_of_ble_eq_true rfl) dX8_later_2 rfl ?_
  refine gw_if_eq 5 33 hC dX8_later_5 (by decide) (fun c4 => ?_) (fun c4 => ?_)
  · replace h := if_t h c4
    refine gw_iconst 33 hC dX8_later_33 ?_
    exact gw_iret 34 hC dX8_later_34 h
  · replace h := if_f h c4
    refine gw_iload_n 8 2 hC dX8_later_8 rfl ?_
    refine gw_i2l 9 hC dX8_later_9 ?_
    refine gw_lconst (v := 0) 10 hC dX8_later_10 (by decide) ?_
    refine gw_ldc2 (v := 60) 11 hC dX8_later_11 q2462 (by decide) ?_
    obtain ⟨z5, ez5, h⟩ := opt_e h
    refine gw_callS (As := [Lg (i32 a2), Lg 0, Lg 60]) (rest := []) (st' := [J z5.1]) 14 3 hC (met_isIn ez5 l) (lw_S q2123 q2124 q161 q2125) (by decide +kernel) (by decide) rfl rfl (Nat.le_of_ble_eq_true rfl) dX8_later_14 rfl ?_
    refine gw_if_eq 17 33 hC dX8_later_17 (by decide) (fun c6 => ?_) (fun c6 => ?_)
    · replace h := if_t h c6
      refine gw_iconst 33 hC dX8_later_33 ?_
      exact gw_iret 34 hC dX8_later_34 h
    · replace h := if_f h c6
      refine gw_aload_n 20 0 hC dX8_later_20 rfl ?_
      refine gw_iload_n 21 2 hC dX8_later_21 rfl ?_
      refine gw_iconst 22 hC dX8_later_22 ?_
      refine gw_iadd 23 hC dX8_later_23 ?_
      refine gw_iconst 24 hC dX8_later_24 ?_
      refine gw_bipush 25 hC dX8_later_25 (by decide) ?_
      obtain ⟨z7, ez7, h⟩ := opt_e h
      refine gw_callV (As := [J (a2 + 1), J 1, J 61]) (rest := []) (st' := [J z7.1]) 27 3 hC (met_isAhead ez7 l) (lw_V q2463 q2465 qs125 q161 q2466) (by decide +kernel) (by decide) (m_recv hC) rfl rfl (Nat.le_of_ble_eq_true rfl) dX8_later_27 rfl ?_
      refine gw_if_ne 30 35 hC dX8_later_30 (by decide) (fun c8 => ?_) (fun c8 => ?_)
      · replace h := if_f h c8
        refine gw_aload_n 35 0 hC dX8_later_35 rfl ?_
        obtain ⟨z9, ez9, h⟩ := opt_e h
        refine gw_callV (As := []) (rest := []) (st' := []) 36 0 hC (met_putsAside ez9 l) (lw_V q2446 q2448 qs122 q161 q2449) (by decide +kernel) (by decide) (m_recv hC) rfl rfl (Nat.le_of_ble_eq_true rfl) dX8_later_36 rfl ?_
        refine gw_aload_n 39 0 hC dX8_later_39 rfl ?_
        refine gw_iload_n 40 2 hC dX8_later_40 rfl ?_
        refine gw_iconst 41 hC dX8_later_41 ?_
        refine gw_iadd 42 hC dX8_later_42 ?_
        obtain ⟨z10, ez10, h⟩ := opt_e h
        refine gw_callV (As := [J (a2 + 1)]) (rest := []) (st' := []) 43 1 hC (met_daysGo ez10 l) (lw_V q2467 q2469 qs126 q161 q2470) (by decide +kernel) (by decide) (m_recv hC) rfl rfl (Nat.le_of_ble_eq_true rfl) dX8_later_43 rfl ?_
        refine gw_aload_n 46 0 hC dX8_later_46 rfl ?_
        obtain ⟨z11, ez11, h⟩ := opt_e h
        refine gw_callV (As := []) (rest := []) (st' := []) 47 0 hC (met_takesBack ez11 l) (lw_V q2454 q2456 qs124 q161 q2457) (by decide +kernel) (by decide) (m_recv hC) rfl rfl (Nat.le_of_ble_eq_true rfl) dX8_later_47 rfl ?_
        refine gw_aload_n 50 0 hC dX8_later_50 rfl ?_
        refine mg_62 51 hC dX8_later_51 ?_
        refine gw_iload_n 54 1 hC dX8_later_54 rfl ?_
        obtain ⟨g12, h⟩ := gd_e h
        refine m_iald 55 62 hC (by decide) rfl g12 dX8_later_55 ?_
        exact gw_iret 56 hC dX8_later_56 h
      · replace h := if_t h c8
        refine gw_iconst 33 hC dX8_later_33 ?_
        exact gw_iret 34 hC dX8_later_34 h
/-! tone(II)I -/
noncomputable def m_tone (a1 : Int) (a2 : Int) (s0 : MS) : Option (Int × MS) :=
  Option.bind (m_isSaying a1 s0) fun z3 =>
  if i32 z3.1 = 0 then
    some ((-1), z3.2)
  else
    Option.bind (m_isAhead a2 0 60 z3.2) fun z5 =>
    if i32 z5.1 = 0 then
      some ((-1), z5.2)
    else
      Option.bind (m_putsAside z5.2) fun z7 =>
      Option.bind (m_daysGo a2 z7.2) fun z8 =>
      Option.bind (m_toneOf a1 z8.2) fun z9 =>
      bnd z9.1 fun x3_10 =>
      Option.bind (m_takesBack z9.2) fun z11 =>
      some (x3_10, z11.2)
theorem met_tone {D : MD} {o : Nat} {a1 : Int} {a2 : Int} {s0 : MS} {res : Int × MS} (h : m_tone a1 a2 s0 = some res) (l : Launch) : GMet l yX8_tone cX8_tone 4 (some .int) 9 (MRp D o) (MK D) (mAd o) [.ref o, J a1, J a2] s0 1 res := by
  refine GMet.of [(0, .ref o), (1, J a1), (2, J a2)] (by decide) (MK_moved D) (Nat.le_of_ble_eq_true rfl) rfl ?_
  intro p e s m args below meth c hC
  have hC : GC p s m args meth c cX8_tone RX8 4 (some .int) (MK D) := hC
  unfold m_tone at h
  refine gw_aload_n 0 0 hC dX8_tone_0 rfl ?_
  refine gw_iload_n 1 1 hC dX8_tone_1 rfl ?_
  obtain ⟨z3, ez3, h⟩ := opt_e h
  refine gw_callV (As := [J a1]) (rest := []) (st' := [J z3.1]) 2 1 hC (met_isSaying ez3 l) (lw_V q2295 q2297 qs98 q161 q2298) (by decide +kernel) (by decide) (m_recv hC) rfl rfl (Nat.le_of_ble_eq_true rfl) dX8_tone_2 rfl ?_
  refine gw_if_eq 5 19 hC dX8_tone_5 (by decide) (fun c4 => ?_) (fun c4 => ?_)
  · replace h := if_t h c4
    refine gw_iconst 19 hC dX8_tone_19 ?_
    exact gw_iret 20 hC dX8_tone_20 h
  · replace h := if_f h c4
    refine gw_aload_n 8 0 hC dX8_tone_8 rfl ?_
    refine gw_iload_n 9 2 hC dX8_tone_9 rfl ?_
    refine gw_iconst 10 hC dX8_tone_10 ?_
    refine gw_bipush 11 hC dX8_tone_11 (by decide) ?_
    obtain ⟨z5, ez5, h⟩ := opt_e h
    refine gw_callV (As := [J a2, J 0, J 60]) (rest := []) (st' := [J z5.1]) 13 3 hC (met_isAhead ez5 l) (lw_V q2463 q2465 qs125 q161 q2466) (by decide +kernel) (by decide) (m_recv hC) rfl rfl (Nat.le_of_ble_eq_true rfl) dX8_tone_13 rfl ?_
    refine gw_if_ne 16 21 hC dX8_tone_16 (by decide) (fun c6 => ?_) (fun c6 => ?_)
    · replace h := if_f h c6
      refine gw_aload_n 21 0 hC dX8_tone_21 rfl ?_
      obtain ⟨z7, ez7, h⟩ := opt_e h
      refine gw_callV (As := []) (rest := []) (st' := []) 22 0 hC (met_putsAside ez7 l) (lw_V q2446 q2448 qs122 q161 q2449) (by decide +kernel) (by decide) (m_recv hC) rfl rfl (Nat.le_of_ble_eq_true rfl) dX8_tone_22 rfl ?_
      refine gw_aload_n 25 0 hC dX8_tone_25 rfl ?_
      refine gw_iload_n 26 2 hC dX8_tone_26 rfl ?_
      obtain ⟨z8, ez8, h⟩ := opt_e h
      refine gw_callV (As := [J a2]) (rest := []) (st' := []) 27 1 hC (met_daysGo ez8 l) (lw_V q2467 q2469 qs126 q161 q2470) (by decide +kernel) (by decide) (m_recv hC) rfl rfl (Nat.le_of_ble_eq_true rfl) dX8_tone_27 rfl ?_
      refine gw_aload_n 30 0 hC dX8_tone_30 rfl ?_
      refine gw_iload_n 31 1 hC dX8_tone_31 rfl ?_
      obtain ⟨z9, ez9, h⟩ := opt_e h
      refine gw_callV (As := [J a1]) (rest := []) (st' := [J z9.1]) 32 1 hC (met_toneOf ez9 l) (lw_V q2324 q2326 qs105 q161 q2327) (by decide +kernel) (by decide) (m_recv hC) rfl rfl (Nat.le_of_ble_eq_true rfl) dX8_tone_32 rfl ?_
      obtain ⟨x3_10, ex3_10, h⟩ := bnd_e h
      refine gw_istore_n 35 [(3, J x3_10), (0, .ref o), (1, J a1), (2, J a2)] hC dX8_tone_35 (by decide) ex3_10 rfl ?_
      refine gw_aload_n 36 1 hC dX8_tone_36 rfl ?_
      obtain ⟨z11, ez11, h⟩ := opt_e h
      refine gw_callV (As := []) (rest := []) (st' := []) 37 0 hC (met_takesBack ez11 l) (lw_V q2454 q2456 qs124 q161 q2457) (by decide +kernel) (by decide) (m_recv hC) rfl rfl (Nat.le_of_ble_eq_true rfl) dX8_tone_37 rfl ?_
      refine gw_iload_n 40 0 hC dX8_tone_40 rfl ?_
      exact gw_iret 41 hC dX8_tone_41 h
    · replace h := if_t h c6
      refine gw_iconst 19 hC dX8_tone_19 ?_
      exact gw_iret 20 hC dX8_tone_20 h
/-! mute()I -/
noncomputable def m_mute_L17 (k64 : Int → MS → Option (Int × MS)) : Nat → Int → Int → MS → Option (Int × MS)
  | 0, _, _, _ => none
  | n + 1, x1_5, x2_6, s7 =>
    if i32 60 < i32 x2_6 then
      k64 x1_5 s7
    else
      if i32 x1_5 = i32 (-1) then
        gd (ok 219 0) <|
        if i32 999 ≤ i32 (s7 48 (i32 0)) then
          k64 x1_5 s7
        else
          bnd (up s7 61 0 0) fun s14 =>
          Option.bind (m_dayGoes s14) fun z15 =>
          bnd (fun (x1_16 : Int) (x2_17 : Int) (s18 : MS) =>
              bnd (x2_17 + 1) fun x2_19 =>
              m_mute_L17 k64 n x1_16 x2_19 s18) fun j20 =>
          if i32 (z15.2 61 0) = 0 then
            j20 x2_6 x2_6 z15.2
          else
            j20 x1_5 x2_6 z15.2
      else
        k64 x1_5 s7
noncomputable def m_mute (s0 : MS) : Option (Int × MS) :=
  if i32 (s0 46 0) = 0 then
    some ((-1), s0)
  else
    bnd (-1) fun x1_2 =>
    Option.bind (m_putsAside s0) fun z3 =>
    bnd 0 fun x2_4 =>
    m_mute_L17
      (fun (x1_22 : Int) (s23 : MS) =>
        Option.bind (m_takesBack s23) fun z24 =>
        some (x1_22, z24.2))
      FU x1_2 x2_4 z3.2
theorem wm_mute_L17 {p : Program} {l : Launch} {e : Env} {s : State} {m : MethodId} {args : Array Value} {below : List Frame} {meth : Method} {c : Code} {D : MD} {o : Nat} {res : Int × MS} {k64 : Int → MS → Option (Int × MS)} (hC : GC p s m args meth c cX8_mute RX8 3 (some .int) (MK D)) (hk64 : ∀ (x1_8 : Int) (s9 : MS), k64 x1_8 s9 = some res → GW p l e (rmd 8) s m args below meth c 3 (mAd o) (MRp D o) (MK D) 1 res s9 64 [(0, .ref o), (1, J x1_8)] []) : ∀ (n : Nat) (x1_5 : Int) (x2_6 : Int) (s7 : MS), m_mute_L17 k64 n x1_5 x2_6 s7 = some res → GW p l e (rmd 8) s m args below meth c 3 (mAd o) (MRp D o) (MK D) 1 res s7 17 [(0, .ref o), (1, J x1_5), (2, J x2_6)] [] := by
  intro n
  induction n with
  | zero =>
    intro x1_5 x2_6 s7 h
    cases h
  | succ n ih =>
    intro x1_5 x2_6 s7 h
    rw [m_mute_L17] at h
    refine gw_iload_n 17 2 hC dX8_mute_17 rfl ?_
    refine gw_bipush 18 hC dX8_mute_18 (by decide) ?_
    refine gw_icmp_gt 20 64 hC dX8_mute_20 (by decide) (fun c10 => ?_) (fun c10 => ?_)
    · replace h := if_t h c10
      refine gw_sub [0, 1] rfl ?_
      exact hk64 _ _ h
    · replace h := if_f h c10
      refine gw_iload_n 23 1 hC dX8_mute_23 rfl ?_
      refine gw_iconst 24 hC dX8_mute_24 ?_
      refine gw_icmp_ne 25 64 hC dX8_mute_25 (by decide) (fun c11 => ?_) (fun c11 => ?_)
      · replace h := if_f h c11
        refine gw_sub [0, 1] rfl ?_
        exact hk64 _ _ h
      · replace h := if_t h c11
        refine gw_aload_n 28 0 hC dX8_mute_28 rfl ?_
        refine mg_48 29 hC dX8_mute_29 ?_
        refine gw_iconst 32 hC dX8_mute_32 ?_
        obtain ⟨g12, h⟩ := gd_e h
        refine m_iald 33 48 hC (by decide) rfl g12 dX8_mute_33 ?_
        refine gw_sipush 34 hC dX8_mute_34 (by decide) ?_
        refine gw_icmp_ge 37 64 hC dX8_mute_37 (by decide) (fun c13 => ?_) (fun c13 => ?_)
        · replace h := if_t h c13
          refine gw_sub [0, 1] rfl ?_
          exact hk64 _ _ h
        · replace h := if_f h c13
          refine gw_aload_n 40 0 hC dX8_mute_40 rfl ?_
          refine gw_iconst 41 hC dX8_mute_41 ?_
          obtain ⟨s14, es14, h⟩ := bnd_e h
          refine mp_61 42 hC (MIn_self o) es14 dX8_mute_42 ?_
          refine gw_aload_n 45 0 hC dX8_mute_45 rfl ?_
          obtain ⟨z15, ez15, h⟩ := opt_e h
          refine gw_callV (As := []) (rest := []) (st' := []) 46 0 hC (met_dayGoes ez15 l) (lw_V q2471 q2473 qs127 q161 q2474) (by decide +kernel) (by decide) (m_recv hC) rfl rfl (Nat.le_of_ble_eq_true rfl) dX8_mute_46 rfl ?_
          refine gw_aload_n 49 0 hC dX8_mute_49 rfl ?_
          refine mg_61 50 hC dX8_mute_50 ?_
          obtain ⟨j20, ej20, h⟩ := bnd_e h
          have hj20 : ∀ (x1_16 : Int) (x2_17 : Int) (s18 : MS), j20 x1_16 x2_17 s18 = some res → GW p l e (rmd 8) s m args below meth c 3 (mAd o) (MRp D o) (MK D) 1 res s18 58 [(0, .ref o), (1, J x1_16), (2, J x2_17)] [] := by
            clear h
            intro x1_16 x2_17 s18 h
            subst ej20
            obtain ⟨x2_19, ex2_19, h⟩ := bnd_e h
            refine gw_iinc 58 2 [(2, J x2_19), (0, .ref o), (1, J x1_16)] hC dX8_mute_58 rfl ex2_19 (by decide) rfl ?_
            refine gw_goto 61 17 hC dX8_mute_61 (by decide) ?_
            refine gw_sub [1, 2, 0] rfl ?_
            exact ih _ _ _ h
          refine gw_if_ne 53 58 hC dX8_mute_53 (by decide) (fun c21 => ?_) (fun c21 => ?_)
          · replace h := if_f h c21
            refine gw_sub [0, 1, 2] rfl ?_
            exact hj20 _ _ _ h
          · replace h := if_t h c21
            refine gw_iload_n 56 2 hC dX8_mute_56 rfl ?_
            refine gw_istore_n 57 [(1, J x2_6), (0, .ref o), (2, J x2_6)] hC dX8_mute_57 (by decide) rfl rfl ?_
            refine gw_sub [1, 0, 2] rfl ?_
            exact hj20 _ _ _ h
theorem met_mute {D : MD} {o : Nat} {s0 : MS} {res : Int × MS} (h : m_mute s0 = some res) (l : Launch) : GMet l yX8_mute cX8_mute 3 (some .int) 8 (MRp D o) (MK D) (mAd o) [.ref o] s0 1 res := by
  refine GMet.of [(0, .ref o)] (by decide) (MK_moved D) (Nat.le_of_ble_eq_true rfl) rfl ?_
  intro p e s m args below meth c hC
  have hC : GC p s m args meth c cX8_mute RX8 3 (some .int) (MK D) := hC
  unfold m_mute at h
  refine gw_aload_n 0 0 hC dX8_mute_0 rfl ?_
  refine mg_46 1 hC dX8_mute_1 ?_
  refine gw_if_ne 4 9 hC dX8_mute_4 (by decide) (fun c1 => ?_) (fun c1 => ?_)
  · replace h := if_f h c1
    refine gw_iconst 9 hC dX8_mute_9 ?_
    obtain ⟨x1_2, ex1_2, h⟩ := bnd_e h
    refine gw_istore_n 10 [(1, J x1_2), (0, .ref o)] hC dX8_mute_10 (by decide) ex1_2 rfl ?_
    refine gw_aload_n 11 1 hC dX8_mute_11 rfl ?_
    obtain ⟨z3, ez3, h⟩ := opt_e h
    refine gw_callV (As := []) (rest := []) (st' := []) 12 0 hC (met_putsAside ez3 l) (lw_V q2446 q2448 qs122 q161 q2449) (by decide +kernel) (by decide) (m_recv hC) rfl rfl (Nat.le_of_ble_eq_true rfl) dX8_mute_12 rfl ?_
    refine gw_iconst 15 hC dX8_mute_15 ?_
    obtain ⟨x2_4, ex2_4, h⟩ := bnd_e h
    refine gw_istore_n 16 [(2, J x2_4), (1, J x1_2), (0, .ref o)] hC dX8_mute_16 (by decide) ex2_4 rfl ?_
    refine gw_sub [2, 1, 0] rfl ?_
    refine wm_mute_L17 hC (fun x1_22 s23 h => ?_) FU _ _ _ h
    · refine gw_aload_n 64 0 hC dX8_mute_64 rfl ?_
      obtain ⟨z24, ez24, h⟩ := opt_e h
      refine gw_callV (As := []) (rest := []) (st' := []) 65 0 hC (met_takesBack ez24 l) (lw_V q2454 q2456 qs124 q161 q2457) (by decide +kernel) (by decide) (m_recv hC) rfl rfl (Nat.le_of_ble_eq_true rfl) dX8_mute_65 rfl ?_
      refine gw_iload_n 68 1 hC dX8_mute_68 rfl ?_
      exact gw_iret 69 hC dX8_mute_69 h
  · replace h := if_t h c1
    refine gw_iconst 7 hC dX8_mute_7 ?_
    exact gw_iret 8 hC dX8_mute_8 h
/-! refuses(I)I -/
noncomputable def m_refuses (a1 : Int) (s0 : MS) : Option (Int × MS) :=
  gd (ok 6 a1) <|
  gd (ok 6 a1) <|
  bnd (up s0 9 (i32 a1) ((s0 9 (i32 a1)) + 1)) fun s4 =>
  some ((-1), s4)
theorem met_refuses {D : MD} {o : Nat} {a1 : Int} {s0 : MS} {res : Int × MS} (h : m_refuses a1 s0 = some res) (l : Launch) : GMet l yX8_refuses cX8_refuses 2 (some .int) 1 (MRp D o) (MK D) (mAd o) [.ref o, J a1] s0 1 res := by
  refine GMet.of [(0, .ref o), (1, J a1)] (by decide) (MK_moved D) (Nat.le_of_ble_eq_true rfl) rfl ?_
  intro p e s m args below meth c hC
  have hC : GC p s m args meth c cX8_refuses RX8 2 (some .int) (MK D) := hC
  unfold m_refuses at h
  refine gw_aload_n 0 0 hC dX8_refuses_0 rfl ?_
  refine mg_9 1 hC dX8_refuses_1 ?_
  refine gw_iload_n 4 1 hC dX8_refuses_4 rfl ?_
  refine gw_dup2 5 hC dX8_refuses_5 rfl rfl ?_
  obtain ⟨g2, h⟩ := gd_e h
  refine m_iald 6 9 hC (by decide) rfl g2 dX8_refuses_6 ?_
  refine gw_iconst 7 hC dX8_refuses_7 ?_
  refine gw_iadd 8 hC dX8_refuses_8 ?_
  obtain ⟨g3, h⟩ := gd_e h
  obtain ⟨s4, es4, h⟩ := bnd_e h
  refine m_iast 9 9 hC (MIn_self o) (by decide) rfl g3 es4 dX8_refuses_9 ?_
  refine gw_iconst 10 hC dX8_refuses_10 ?_
  exact gw_iret 11 hC dX8_refuses_11 h
/-! see()I -/
noncomputable def m_see_L43 (k120 : Int → Int → MS → Option (Int × MS)) : Nat → Int → Int → Int → MS → Option (Int × MS)
  | 0, _, _, _, _ => none
  | n + 1, x1_7, x2_8, x3_9, s10 =>
    if i32 x1_7 ≤ i32 x3_9 then
      k120 x1_7 x2_8 s10
    else
      if i32 x2_8 = 0 then
        k120 x1_7 x2_8 s10
      else
        gd (ok 1600 x3_9) <|
        bnd (fun (x1_17 : Int) (x3_18 : Int) (w19 : Int) (s20 : MS) =>
            bnd (x3_18 + 3) fun x3_21 =>
            m_see_L43 k120 n x1_17 w19 x3_21 s20) fun j22 =>
        bnd (fun (x1_23 : Int) (x3_24 : Int) (s25 : MS) =>
            j22 x1_23 x3_24 0 s25) fun j26 =>
        if i32 20 < i32 (s10 0 (i32 x3_9)) then
          j26 x1_7 x3_9 s10
        else
          gd (ok 1600 (x3_9 + 1)) <|
          Option.bind (m_isSaying (s10 0 (i32 (x3_9 + 1))) s10) fun z29 =>
          if i32 z29.1 = 0 then
            j26 x1_7 x3_9 z29.2
          else
            gd (ok 1600 (x3_9 + 2)) <|
            Option.bind (m_isVerb (i32 (z29.2 0 (i32 (x3_9 + 2)))) z29.2) fun z32 =>
            bnd (fun (x1_33 : Int) (x3_34 : Int) (s35 : MS) =>
                j22 x1_33 x3_34 1 s35) fun j36 =>
            if i32 z32.1 = 0 then
              gd (ok 1600 (x3_9 + 2)) <|
              if i32 (z32.2 0 (i32 (x3_9 + 2))) = i32 255 then
                j36 x1_7 x3_9 z32.2
              else
                j26 x1_7 x3_9 z32.2
            else
              j36 x1_7 x3_9 z32.2
noncomputable def m_see_L132 (k178 : Int → MS → Option (Int × MS)) : Nat → Int → Int → MS → Option (Int × MS)
  | 0, _, _, _ => none
  | n + 1, x1_45, x3_46, s47 =>
    if i32 x1_45 ≤ i32 x3_46 then
      k178 x1_45 s47
    else
      bnd (fun (x1_51 : Int) (x3_52 : Int) (w53 : Int) (w54 : Int) (s55 : MS) =>
          gd (ok 48 w54) <|
          bnd (up s55 65 (i32 w54) w53) fun s57 =>
          bnd (x3_52 + 1) fun x3_58 =>
          m_see_L132 k178 n x1_51 x3_58 s57) fun j59 =>
      bnd (fun (x1_60 : Int) (x3_61 : Int) (w62 : Int) (s63 : MS) =>
          gd (ok 1600 x3_61) <|
          j59 x1_60 x3_61 (s63 0 (i32 x3_61)) w62 s63) fun j65 =>
      if i32 (irem x3_46 3) = i32 2 then
        gd (ok 1600 x3_46) <|
        if i32 (s47 0 (i32 x3_46)) = i32 255 then
          j59 x1_45 x3_46 (-1) x3_46 s47
        else
          j65 x1_45 x3_46 x3_46 s47
      else
        j65 x1_45 x3_46 x3_46 s47
noncomputable def m_see (s0 : MS) : Option (Int × MS) :=
  bnd (s0 1 0) fun x1_1 =>
  bnd (up s0 1 0 0) fun s2 =>
  bnd (fun (x1_3 : Int) (w4 : Int) (s5 : MS) =>
      bnd 0 fun x3_6 =>
      m_see_L43
        (fun (x1_40 : Int) (x2_41 : Int) (s42 : MS) =>
          if i32 x2_41 = 0 then
            Option.bind (m_refuses 1 s42) fun z72 =>
            some (z72.1, z72.2)
          else
            bnd 0 fun x3_44 =>
            m_see_L132
              (fun (x1_69 : Int) (s70 : MS) =>
                bnd (up s70 64 0 (idiv x1_69 3)) fun s71 =>
                some ((s71 64 0), s71))
              FU x1_40 x3_44 s42)
        FU x1_3 w4 x3_6 s5) fun j73 =>
  bnd (fun (x1_74 : Int) (s75 : MS) =>
      j73 x1_74 0 s75) fun j76 =>
  if i32 (s2 46 0) = 0 then
    j76 x1_1 s2
  else
    if i32 x1_1 ≤ 0 then
      j76 x1_1 s2
    else
      if i32 (irem x1_1 3) = 0 then
        if i32 16 < i32 (idiv x1_1 3) then
          j76 x1_1 s2
        else
          j73 x1_1 1 s2
      else
        j76 x1_1 s2
theorem wm_see_L43 {p : Program} {l : Launch} {e : Env} {s : State} {m : MethodId} {args : Array Value} {below : List Frame} {meth : Method} {c : Code} {D : MD} {o : Nat} {res : Int × MS} {k120 : Int → Int → MS → Option (Int × MS)} (hC : GC p s m args meth c cX8_see RX8 4 (some .int) (MK D)) (hk120 : ∀ (x1_11 : Int) (x2_12 : Int) (s13 : MS), k120 x1_11 x2_12 s13 = some res → GW p l e (rmd 3) s m args below meth c 4 (mAd o) (MRp D o) (MK D) 1 res s13 120 [(0, .ref o), (1, J x1_11), (2, J x2_12)] []) : ∀ (n : Nat) (x1_7 : Int) (x2_8 : Int) (x3_9 : Int) (s10 : MS), m_see_L43 k120 n x1_7 x2_8 x3_9 s10 = some res → GW p l e (rmd 3) s m args below meth c 4 (mAd o) (MRp D o) (MK D) 1 res s10 43 [(0, .ref o), (1, J x1_7), (2, J x2_8), (3, J x3_9)] [] := by
  intro n
  induction n with
  | zero =>
    intro x1_7 x2_8 x3_9 s10 h
    cases h
  | succ n ih =>
    intro x1_7 x2_8 x3_9 s10 h
    rw [m_see_L43] at h
    refine gw_iload_n 43 3 hC dX8_see_43 rfl ?_
    refine gw_iload_n 44 1 hC dX8_see_44 rfl ?_
    refine gw_icmp_ge 45 120 hC dX8_see_45 (by decide) (fun c14 => ?_) (fun c14 => ?_)
    · replace h := if_t h c14
      refine gw_sub [0, 1, 2] rfl ?_
      exact hk120 _ _ _ h
    · replace h := if_f h c14
      refine gw_iload_n 48 2 hC dX8_see_48 rfl ?_
      refine gw_if_eq 49 120 hC dX8_see_49 (by decide) (fun c15 => ?_) (fun c15 => ?_)
      · replace h := if_t h c15
        refine gw_sub [0, 1, 2] rfl ?_
        exact hk120 _ _ _ h
      · replace h := if_f h c15
        refine gw_aload_n 52 0 hC dX8_see_52 rfl ?_
        refine mg_0 53 hC dX8_see_53 ?_
        refine gw_iload_n 56 3 hC dX8_see_56 rfl ?_
        obtain ⟨g16, h⟩ := gd_e h
        refine m_iald 57 0 hC (by decide) rfl g16 dX8_see_57 ?_
        refine gw_bipush 58 hC dX8_see_58 (by decide) ?_
        obtain ⟨j22, ej22, h⟩ := bnd_e h
        have hj22 : ∀ (x1_17 : Int) (x3_18 : Int) (w19 : Int) (s20 : MS), j22 x1_17 x3_18 w19 s20 = some res → GW p l e (rmd 3) s m args below meth c 4 (mAd o) (MRp D o) (MK D) 1 res s20 113 [(0, .ref o), (1, J x1_17), (3, J x3_18)] [J w19] := by
          clear h
          intro x1_17 x3_18 w19 s20 h
          subst ej22
          refine gw_istore_n 113 [(2, J w19), (0, .ref o), (1, J x1_17), (3, J x3_18)] hC dX8_see_113 (by decide) rfl rfl ?_
          obtain ⟨x3_21, ex3_21, h⟩ := bnd_e h
          refine gw_iinc 114 3 [(3, J x3_21), (2, J w19), (0, .ref o), (1, J x1_17)] hC dX8_see_114 rfl ex3_21 (by decide) rfl ?_
          refine gw_goto 117 43 hC dX8_see_117 (by decide) ?_
          refine gw_sub [2, 3, 1, 0] rfl ?_
          exact ih _ _ _ _ h
        obtain ⟨j26, ej26, h⟩ := bnd_e h
        have hj26 : ∀ (x1_23 : Int) (x3_24 : Int) (s25 : MS), j26 x1_23 x3_24 s25 = some res → GW p l e (rmd 3) s m args below meth c 4 (mAd o) (MRp D o) (MK D) 1 res s25 112 [(0, .ref o), (1, J x1_23), (3, J x3_24)] [] := by
          clear h
          intro x1_23 x3_24 s25 h
          subst ej26
          refine gw_iconst 112 hC dX8_see_112 ?_
          refine gw_sub [0, 1, 2] rfl ?_
          exact hj22 _ _ _ _ h
        refine gw_icmp_gt 60 112 hC dX8_see_60 (by decide) (fun c27 => ?_) (fun c27 => ?_)
        · replace h := if_t h c27
          refine gw_sub [0, 1, 3] rfl ?_
          exact hj26 _ _ _ h
        · replace h := if_f h c27
          refine gw_aload_n 63 0 hC dX8_see_63 rfl ?_
          refine gw_aload_n 64 0 hC dX8_see_64 rfl ?_
          refine mg_0 65 hC dX8_see_65 ?_
          refine gw_iload_n 68 3 hC dX8_see_68 rfl ?_
          refine gw_iconst 69 hC dX8_see_69 ?_
          refine gw_iadd 70 hC dX8_see_70 ?_
          obtain ⟨g28, h⟩ := gd_e h
          refine m_iald 71 0 hC (by decide) rfl g28 dX8_see_71 ?_
          obtain ⟨z29, ez29, h⟩ := opt_e h
          refine gw_callV (As := [J (s10 0 (i32 (x3_9 + 1)))]) (rest := []) (st' := [J z29.1]) 72 1 hC (met_isSaying ez29 l) (lw_V q2295 q2297 qs98 q161 q2298) (by decide +kernel) (by decide) (m_recv hC) rfl rfl (Nat.le_of_ble_eq_true rfl) dX8_see_72 rfl ?_
          refine gw_if_eq 75 112 hC dX8_see_75 (by decide) (fun c30 => ?_) (fun c30 => ?_)
          · replace h := if_t h c30
            refine gw_sub [0, 1, 3] rfl ?_
            exact hj26 _ _ _ h
          · replace h := if_f h c30
            refine gw_aload_n 78 0 hC dX8_see_78 rfl ?_
            refine gw_aload_n 79 0 hC dX8_see_79 rfl ?_
            refine mg_0 80 hC dX8_see_80 ?_
            refine gw_iload_n 83 3 hC dX8_see_83 rfl ?_
            refine gw_iconst 84 hC dX8_see_84 ?_
            refine gw_iadd 85 hC dX8_see_85 ?_
            obtain ⟨g31, h⟩ := gd_e h
            refine m_iald 86 0 hC (by decide) rfl g31 dX8_see_86 ?_
            refine gw_i2l 87 hC dX8_see_87 ?_
            obtain ⟨z32, ez32, h⟩ := opt_e h
            refine gw_callV (As := [Lg (i32 (z29.2 0 (i32 (x3_9 + 2))))]) (rest := []) (st' := [J z32.1]) 88 1 hC (met_isVerb ez32 l) (lw_V q2389 q2391 qs118 q161 q2392) (by decide +kernel) (by decide) (m_recv hC) rfl rfl (Nat.le_of_ble_eq_true rfl) dX8_see_88 rfl ?_
            obtain ⟨j36, ej36, h⟩ := bnd_e h
            have hj36 : ∀ (x1_33 : Int) (x3_34 : Int) (s35 : MS), j36 x1_33 x3_34 s35 = some res → GW p l e (rmd 3) s m args below meth c 4 (mAd o) (MRp D o) (MK D) 1 res s35 108 [(0, .ref o), (1, J x1_33), (3, J x3_34)] [] := by
              clear h
              intro x1_33 x3_34 s35 h
              subst ej36
              refine gw_iconst 108 hC dX8_see_108 ?_
              refine gw_goto 109 113 hC dX8_see_109 (by decide) ?_
              refine gw_sub [0, 1, 2] rfl ?_
              exact hj22 _ _ _ _ h
            refine gw_if_ne 91 108 hC dX8_see_91 (by decide) (fun c37 => ?_) (fun c37 => ?_)
            · replace h := if_f h c37
              refine gw_sub [0, 1, 3] rfl ?_
              exact hj36 _ _ _ h
            · replace h := if_t h c37
              refine gw_aload_n 94 0 hC dX8_see_94 rfl ?_
              refine mg_0 95 hC dX8_see_95 ?_
              refine gw_iload_n 98 3 hC dX8_see_98 rfl ?_
              refine gw_iconst 99 hC dX8_see_99 ?_
              refine gw_iadd 100 hC dX8_see_100 ?_
              obtain ⟨g38, h⟩ := gd_e h
              refine m_iald 101 0 hC (by decide) rfl g38 dX8_see_101 ?_
              refine gw_sipush 102 hC dX8_see_102 (by decide) ?_
              refine gw_icmp_ne 105 112 hC dX8_see_105 (by decide) (fun c39 => ?_) (fun c39 => ?_)
              · replace h := if_f h c39
                refine gw_sub [0, 1, 3] rfl ?_
                exact hj26 _ _ _ h
              · replace h := if_t h c39
                refine gw_sub [0, 1, 3] rfl ?_
                exact hj36 _ _ _ h
theorem wm_see_L132 {p : Program} {l : Launch} {e : Env} {s : State} {m : MethodId} {args : Array Value} {below : List Frame} {meth : Method} {c : Code} {D : MD} {o : Nat} {res : Int × MS} {k178 : Int → MS → Option (Int × MS)} (hC : GC p s m args meth c cX8_see RX8 4 (some .int) (MK D)) (hk178 : ∀ (x1_48 : Int) (s49 : MS), k178 x1_48 s49 = some res → GW p l e (rmd 3) s m args below meth c 4 (mAd o) (MRp D o) (MK D) 1 res s49 178 [(0, .ref o), (1, J x1_48)] []) : ∀ (n : Nat) (x1_45 : Int) (x3_46 : Int) (s47 : MS), m_see_L132 k178 n x1_45 x3_46 s47 = some res → GW p l e (rmd 3) s m args below meth c 4 (mAd o) (MRp D o) (MK D) 1 res s47 132 [(0, .ref o), (1, J x1_45), (3, J x3_46)] [] := by
  intro n
  induction n with
  | zero =>
    intro x1_45 x3_46 s47 h
    cases h
  | succ n ih =>
    intro x1_45 x3_46 s47 h
    rw [m_see_L132] at h
    refine gw_iload_n 132 2 hC dX8_see_132 rfl ?_
    refine gw_iload_n 133 1 hC dX8_see_133 rfl ?_
    refine gw_icmp_ge 134 178 hC dX8_see_134 (by decide) (fun c50 => ?_) (fun c50 => ?_)
    · replace h := if_t h c50
      refine gw_sub [0, 1] rfl ?_
      exact hk178 _ _ h
    · replace h := if_f h c50
      refine gw_aload_n 137 0 hC dX8_see_137 rfl ?_
      refine mg_65 138 hC dX8_see_138 ?_
      refine gw_iload_n 141 2 hC dX8_see_141 rfl ?_
      refine gw_iload_n 142 2 hC dX8_see_142 rfl ?_
      refine gw_iconst 143 hC dX8_see_143 ?_
      refine gw_irem 144 hC dX8_see_144 (by decide) ?_
      refine gw_iconst 145 hC dX8_see_145 ?_
      obtain ⟨j59, ej59, h⟩ := bnd_e h
      have hj59 : ∀ (x1_51 : Int) (x3_52 : Int) (w53 : Int) (w54 : Int) (s55 : MS), j59 x1_51 x3_52 w53 w54 s55 = some res → GW p l e (rmd 3) s m args below meth c 4 (mAd o) (MRp D o) (MK D) 1 res s55 171 [(0, .ref o), (1, J x1_51), (3, J x3_52)] [J w53, J w54, .ref (o + mO 65)] := by
        clear h
        intro x1_51 x3_52 w53 w54 s55 h
        subst ej59
        obtain ⟨g56, h⟩ := gd_e h
        obtain ⟨s57, es57, h⟩ := bnd_e h
        refine m_iast 171 65 hC (MIn_self o) (by decide) rfl g56 es57 dX8_see_171 ?_
        obtain ⟨x3_58, ex3_58, h⟩ := bnd_e h
        refine gw_iinc 172 2 [(3, J x3_58), (0, .ref o), (1, J x1_51)] hC dX8_see_172 rfl ex3_58 (by decide) rfl ?_
        refine gw_goto 175 132 hC dX8_see_175 (by decide) ?_
        refine gw_sub [1, 2, 0] rfl ?_
        exact ih _ _ _ h
      obtain ⟨j65, ej65, h⟩ := bnd_e h
      have hj65 : ∀ (x1_60 : Int) (x3_61 : Int) (w62 : Int) (s63 : MS), j65 x1_60 x3_61 w62 s63 = some res → GW p l e (rmd 3) s m args below meth c 4 (mAd o) (MRp D o) (MK D) 1 res s63 165 [(0, .ref o), (1, J x1_60), (3, J x3_61)] [J w62, .ref (o + mO 65)] := by
        clear h
        intro x1_60 x3_61 w62 s63 h
        subst ej65
        refine gw_aload_n 165 0 hC dX8_see_165 rfl ?_
        refine mg_0 166 hC dX8_see_166 ?_
        refine gw_iload_n 169 2 hC dX8_see_169 rfl ?_
        obtain ⟨g64, h⟩ := gd_e h
        refine m_iald 170 0 hC (by decide) rfl g64 dX8_see_170 ?_
        refine gw_sub [0, 1, 2] rfl ?_
        exact hj59 _ _ _ _ _ h
      refine gw_icmp_ne 146 165 hC dX8_see_146 (by decide) (fun c66 => ?_) (fun c66 => ?_)
      · replace h := if_f h c66
        refine gw_sub [0, 1, 2] rfl ?_
        exact hj65 _ _ _ _ h
      · replace h := if_t h c66
        refine gw_aload_n 149 0 hC dX8_see_149 rfl ?_
        refine mg_0 150 hC dX8_see_150 ?_
        refine gw_iload_n 153 2 hC dX8_see_153 rfl ?_
        obtain ⟨g67, h⟩ := gd_e h
        refine m_iald 154 0 hC (by decide) rfl g67 dX8_see_154 ?_
        refine gw_sipush 155 hC dX8_see_155 (by decide) ?_
        refine gw_icmp_ne 158 165 hC dX8_see_158 (by decide) (fun c68 => ?_) (fun c68 => ?_)
        · replace h := if_f h c68
          refine gw_sub [0, 1, 2] rfl ?_
          exact hj65 _ _ _ _ h
        · replace h := if_t h c68
          refine gw_iconst 161 hC dX8_see_161 ?_
          refine gw_goto 162 171 hC dX8_see_162 (by decide) ?_
          refine gw_sub [0, 1, 2] rfl ?_
          exact hj59 _ _ _ _ _ h
theorem met_see {D : MD} {o : Nat} {s0 : MS} {res : Int × MS} (h : m_see s0 = some res) (l : Launch) : GMet l yX8_see cX8_see 4 (some .int) 3 (MRp D o) (MK D) (mAd o) [.ref o] s0 1 res := by
  refine GMet.of [(0, .ref o)] (by decide) (MK_moved D) (Nat.le_of_ble_eq_true rfl) rfl ?_
  intro p e s m args below meth c hC
  have hC : GC p s m args meth c cX8_see RX8 4 (some .int) (MK D) := hC
  unfold m_see at h
  refine gw_aload_n 0 0 hC dX8_see_0 rfl ?_
  refine mg_1 1 hC dX8_see_1 ?_
  obtain ⟨x1_1, ex1_1, h⟩ := bnd_e h
  refine gw_istore_n 4 [(1, J x1_1), (0, .ref o)] hC dX8_see_4 (by decide) ex1_1 rfl ?_
  refine gw_aload_n 5 1 hC dX8_see_5 rfl ?_
  refine gw_iconst 6 hC dX8_see_6 ?_
  obtain ⟨s2, es2, h⟩ := bnd_e h
  refine mp_1 7 hC (MIn_self o) es2 dX8_see_7 ?_
  refine gw_aload_n 10 1 hC dX8_see_10 rfl ?_
  refine mg_46 11 hC dX8_see_11 ?_
  obtain ⟨j73, ej73, h⟩ := bnd_e h
  have hj73 : ∀ (x1_3 : Int) (w4 : Int) (s5 : MS), j73 x1_3 w4 s5 = some res → GW p l e (rmd 3) s m args below meth c 4 (mAd o) (MRp D o) (MK D) 1 res s5 40 [(0, .ref o), (1, J x1_3)] [J w4] := by
    clear h
    intro x1_3 w4 s5 h
    subst ej73
    refine gw_istore_n 40 [(2, J w4), (0, .ref o), (1, J x1_3)] hC dX8_see_40 (by decide) rfl rfl ?_
    refine gw_iconst 41 hC dX8_see_41 ?_
    obtain ⟨x3_6, ex3_6, h⟩ := bnd_e h
    refine gw_istore_n 42 [(3, J x3_6), (2, J w4), (0, .ref o), (1, J x1_3)] hC dX8_see_42 (by decide) ex3_6 rfl ?_
    refine gw_sub [2, 3, 1, 0] rfl ?_
    refine wm_see_L43 hC (fun x1_40 x2_41 s42 h => ?_) FU _ _ _ _ h
    · refine gw_iload_n 120 2 hC dX8_see_120 rfl ?_
      refine gw_if_ne 121 130 hC dX8_see_121 (by decide) (fun c43 => ?_) (fun c43 => ?_)
      · replace h := if_f h c43
        refine gw_iconst 130 hC dX8_see_130 ?_
        obtain ⟨x3_44, ex3_44, h⟩ := bnd_e h
        refine gw_istore_n 131 [(3, J x3_44), (0, .ref o), (1, J x1_40), (2, J x2_41)] hC dX8_see_131 (by decide) ex3_44 rfl ?_
        refine gw_sub [1, 2, 0] rfl ?_
        refine wm_see_L132 hC (fun x1_69 s70 h => ?_) FU _ _ _ h
        · refine gw_aload_n 178 0 hC dX8_see_178 rfl ?_
          refine gw_iload_n 179 1 hC dX8_see_179 rfl ?_
          refine gw_iconst 180 hC dX8_see_180 ?_
          refine gw_idiv 181 hC dX8_see_181 (by decide) ?_
          obtain ⟨s71, es71, h⟩ := bnd_e h
          refine mp_64 182 hC (MIn_self o) es71 dX8_see_182 ?_
          refine gw_aload_n 185 0 hC dX8_see_185 rfl ?_
          refine mg_64 186 hC dX8_see_186 ?_
          exact gw_iret 189 hC dX8_see_189 h
      · replace h := if_t h c43
        refine gw_aload_n 124 0 hC dX8_see_124 rfl ?_
        refine gw_iconst 125 hC dX8_see_125 ?_
        obtain ⟨z72, ez72, h⟩ := opt_e h
        refine gw_callV (As := [J 1]) (rest := []) (st' := [J z72.1]) 126 1 hC (met_refuses ez72 l) (lw_V q2504 q2506 qs132 q161 q2507) (by decide +kernel) (by decide) (m_recv hC) rfl rfl (Nat.le_of_ble_eq_true rfl) dX8_see_126 rfl ?_
        exact gw_iret 129 hC dX8_see_129 h
  obtain ⟨j76, ej76, h⟩ := bnd_e h
  have hj76 : ∀ (x1_74 : Int) (s75 : MS), j76 x1_74 s75 = some res → GW p l e (rmd 3) s m args below meth c 4 (mAd o) (MRp D o) (MK D) 1 res s75 39 [(0, .ref o), (1, J x1_74)] [] := by
    clear h
    intro x1_74 s75 h
    subst ej76
    refine gw_iconst 39 hC dX8_see_39 ?_
    refine gw_sub [0, 1] rfl ?_
    exact hj73 _ _ _ h
  refine gw_if_eq 14 39 hC dX8_see_14 (by decide) (fun c77 => ?_) (fun c77 => ?_)
  · replace h := if_t h c77
    refine gw_sub [1, 0] rfl ?_
    exact hj76 _ _ h
  · replace h := if_f h c77
    refine gw_iload_n 17 0 hC dX8_see_17 rfl ?_
    refine gw_if_le 18 39 hC dX8_see_18 (by decide) (fun c78 => ?_) (fun c78 => ?_)
    · replace h := if_t h c78
      refine gw_sub [1, 0] rfl ?_
      exact hj76 _ _ h
    · replace h := if_f h c78
      refine gw_iload_n 21 0 hC dX8_see_21 rfl ?_
      refine gw_iconst 22 hC dX8_see_22 ?_
      refine gw_irem 23 hC dX8_see_23 (by decide) ?_
      refine gw_if_ne 24 39 hC dX8_see_24 (by decide) (fun c79 => ?_) (fun c79 => ?_)
      · replace h := if_f h c79
        refine gw_sub [1, 0] rfl ?_
        exact hj76 _ _ h
      · replace h := if_t h c79
        refine gw_iload_n 27 0 hC dX8_see_27 rfl ?_
        refine gw_iconst 28 hC dX8_see_28 ?_
        refine gw_idiv 29 hC dX8_see_29 (by decide) ?_
        refine gw_bipush 30 hC dX8_see_30 (by decide) ?_
        refine gw_icmp_gt 32 39 hC dX8_see_32 (by decide) (fun c80 => ?_) (fun c80 => ?_)
        · replace h := if_t h c80
          refine gw_sub [1, 0] rfl ?_
          exact hj76 _ _ h
        · replace h := if_f h c80
          refine gw_iconst 35 hC dX8_see_35 ?_
          refine gw_goto 36 40 hC dX8_see_36 (by decide) ?_
          refine gw_sub [1, 0] rfl ?_
          exact hj73 _ _ _ h
