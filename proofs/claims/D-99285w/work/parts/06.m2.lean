/-! THE REFERENCE: its methods as functions, and their walks (written by mall.py) -/
set_option maxRecDepth 100000
/-! qSums()V -/
noncomputable def m_qSums_L15 (k53 : Int → MS → Option (Int × MS)) : Nat → Int → Int → MS → Option (Int × MS)
  | 0, _, _, _ => none
  | n + 1, x1_4, x2_5, s6 =>
    if i32 x2_5 = 0 then
      k53 x1_4 s6
    else
      if i32 (s6 5 0) = 0 then
        Option.bind (m_qPartTold s6) fun z11 =>
        bnd (fun (x1_12 : Int) (w13 : Int) (s14 : MS) =>
            m_qSums_L15 k53 n x1_12 w13 s14) fun j15 =>
        bnd (fun (x1_16 : Int) (s17 : MS) =>
            j15 x1_16 0 s17) fun j18 =>
        if i32 (z11.2 5 0) = 0 then
          Option.bind (m_qGoesOn z11.2) fun z20 =>
          if i32 z20.1 = 0 then
            j18 x1_4 z20.2
          else
            j15 x1_4 1 z20.2
        else
          j18 x1_4 z11.2
      else
        k53 x1_4 s6
noncomputable def m_qSums_L53 (k78 : Int → MS → Option (Int × MS)) : Nat → Int → MS → Option (Int × MS)
  | 0, _, _ => none
  | n + 1, x1_24, s25 =>
    if i32 (s25 5 0) = 0 then
      if i32 (s25 99 0) ≤ i32 (s25 101 0) then
        k78 x1_24 s25
      else
        Option.bind (m_qDrops s25) fun z30 =>
        m_qSums_L53 k78 n x1_24 z30.2
    else
      k78 x1_24 s25
noncomputable def m_qSums (s0 : MS) : Option (Int × MS) :=
  bnd (s0 101 0) fun x1_1 =>
  bnd (up s0 101 0 (s0 99 0)) fun s2 =>
  bnd 1 fun x2_3 =>
  m_qSums_L15
    (fun (x1_22 : Int) (s23 : MS) =>
      m_qSums_L53
        (fun (x1_31 : Int) (s32 : MS) =>
          bnd (up s32 101 0 x1_31) fun s33 =>
          some (0, s33))
        FU x1_22 s23)
    FU x1_1 x2_3 s2
theorem wm_qSums_L15 {p : Program} {l : Launch} {e : Env} {s : State} {m : MethodId} {args : Array Value} {below : List Frame} {meth : Method} {c : Code} {D : MD} {o : Nat} {res : Int × MS} {k53 : Int → MS → Option (Int × MS)} (hC : GC p s m args meth c cX8_qSums RX8 3 none (MK D)) (hk53 : ∀ (x1_7 : Int) (s8 : MS), k53 x1_7 s8 = some res → GW p l e (rmd 7) s m args below meth c 3 (mAd o) (MRp D o) (MK D) 0 res s8 53 [(0, .ref o), (1, J x1_7)] []) : ∀ (n : Nat) (x1_4 : Int) (x2_5 : Int) (s6 : MS), m_qSums_L15 k53 n x1_4 x2_5 s6 = some res → GW p l e (rmd 7) s m args below meth c 3 (mAd o) (MRp D o) (MK D) 0 res s6 15 [(0, .ref o), (1, J x1_4), (2, J x2_5)] [] := by
  intro n
  induction n with
  | zero =>
    intro x1_4 x2_5 s6 h
    cases h
  | succ n ih =>
    intro x1_4 x2_5 s6 h
    rw [m_qSums_L15] at h
    refine gw_iload_n 15 2 hC dX8_qSums_15 rfl ?_
    refine gw_if_eq 16 53 hC dX8_qSums_16 (by decide) (fun c9 => ?_) (fun c9 => ?_)
    · replace h := if_t h c9
      refine gw_sub [0, 1] rfl ?_
      exact hk53 _ _ h
    · replace h := if_f h c9
      refine gw_aload_n 19 0 hC dX8_qSums_19 rfl ?_
      refine mg_5 20 hC dX8_qSums_20 ?_
      refine gw_if_ne 23 53 hC dX8_qSums_23 (by decide) (fun c10 => ?_) (fun c10 => ?_)
      · replace h := if_f h c10
        refine gw_sub [0, 1] rfl ?_
        exact hk53 _ _ h
      · replace h := if_t h c10
        refine gw_aload_n 26 0 hC dX8_qSums_26 rfl ?_
        obtain ⟨z11, ez11, h⟩ := opt_e h
        refine gw_callV (As := []) (rest := []) (st' := []) 27 0 hC (met_qPartTold ez11 l) (lw_V q2188 q2190 qs77 q161 q2191) (by decide +kernel) (by decide) (m_recv hC) rfl rfl (Nat.le_of_ble_eq_true rfl) dX8_qSums_27 rfl ?_
        refine gw_aload_n 30 0 hC dX8_qSums_30 rfl ?_
        refine mg_5 31 hC dX8_qSums_31 ?_
        obtain ⟨j15, ej15, h⟩ := bnd_e h
        have hj15 : ∀ (x1_12 : Int) (w13 : Int) (s14 : MS), j15 x1_12 w13 s14 = some res → GW p l e (rmd 7) s m args below meth c 3 (mAd o) (MRp D o) (MK D) 0 res s14 49 [(0, .ref o), (1, J x1_12)] [J w13] := by
          clear h
          intro x1_12 w13 s14 h
          subst ej15
          refine gw_istore_n 49 [(2, J w13), (0, .ref o), (1, J x1_12)] hC dX8_qSums_49 (by decide) rfl rfl ?_
          refine gw_goto 50 15 hC dX8_qSums_50 (by decide) ?_
          refine gw_sub [1, 2, 0] rfl ?_
          exact ih _ _ _ h
        obtain ⟨j18, ej18, h⟩ := bnd_e h
        have hj18 : ∀ (x1_16 : Int) (s17 : MS), j18 x1_16 s17 = some res → GW p l e (rmd 7) s m args below meth c 3 (mAd o) (MRp D o) (MK D) 0 res s17 48 [(0, .ref o), (1, J x1_16)] [] := by
          clear h
          intro x1_16 s17 h
          subst ej18
          refine gw_iconst 48 hC dX8_qSums_48 ?_
          refine gw_sub [0, 1] rfl ?_
          exact hj15 _ _ _ h
        refine gw_if_ne 34 48 hC dX8_qSums_34 (by decide) (fun c19 => ?_) (fun c19 => ?_)
        · replace h := if_f h c19
          refine gw_sub [0, 1] rfl ?_
          exact hj18 _ _ h
        · replace h := if_t h c19
          refine gw_aload_n 37 0 hC dX8_qSums_37 rfl ?_
          obtain ⟨z20, ez20, h⟩ := opt_e h
          refine gw_callV (As := []) (rest := []) (st' := [J z20.1]) 38 0 hC (met_qGoesOn ez20 l) (lw_V q2216 q2218 qs84 q161 q2219) (by decide +kernel) (by decide) (m_recv hC) rfl rfl (Nat.le_of_ble_eq_true rfl) dX8_qSums_38 rfl ?_
          refine gw_if_eq 41 48 hC dX8_qSums_41 (by decide) (fun c21 => ?_) (fun c21 => ?_)
          · replace h := if_t h c21
            refine gw_sub [0, 1] rfl ?_
            exact hj18 _ _ h
          · replace h := if_f h c21
            refine gw_iconst 44 hC dX8_qSums_44 ?_
            refine gw_goto 45 49 hC dX8_qSums_45 (by decide) ?_
            refine gw_sub [0, 1] rfl ?_
            exact hj15 _ _ _ h
theorem wm_qSums_L53 {p : Program} {l : Launch} {e : Env} {s : State} {m : MethodId} {args : Array Value} {below : List Frame} {meth : Method} {c : Code} {D : MD} {o : Nat} {res : Int × MS} {k78 : Int → MS → Option (Int × MS)} (hC : GC p s m args meth c cX8_qSums RX8 3 none (MK D)) (hk78 : ∀ (x1_26 : Int) (s27 : MS), k78 x1_26 s27 = some res → GW p l e (rmd 7) s m args below meth c 3 (mAd o) (MRp D o) (MK D) 0 res s27 78 [(0, .ref o), (1, J x1_26)] []) : ∀ (n : Nat) (x1_24 : Int) (s25 : MS), m_qSums_L53 k78 n x1_24 s25 = some res → GW p l e (rmd 7) s m args below meth c 3 (mAd o) (MRp D o) (MK D) 0 res s25 53 [(0, .ref o), (1, J x1_24)] [] := by
  intro n
  induction n with
  | zero =>
    intro x1_24 s25 h
    cases h
  | succ n ih =>
    intro x1_24 s25 h
    rw [m_qSums_L53] at h
    refine gw_aload_n 53 0 hC dX8_qSums_53 rfl ?_
    refine mg_5 54 hC dX8_qSums_54 ?_
    refine gw_if_ne 57 78 hC dX8_qSums_57 (by decide) (fun c28 => ?_) (fun c28 => ?_)
    · replace h := if_f h c28
      refine gw_sub [0, 1] rfl ?_
      exact hk78 _ _ h
    · replace h := if_t h c28
      refine gw_aload_n 60 0 hC dX8_qSums_60 rfl ?_
      refine mg_99 61 hC dX8_qSums_61 ?_
      refine gw_aload_n 64 0 hC dX8_qSums_64 rfl ?_
      refine mg_101 65 hC dX8_qSums_65 ?_
      refine gw_icmp_le 68 78 hC dX8_qSums_68 (by decide) (fun c29 => ?_) (fun c29 => ?_)
      · replace h := if_t h c29
        refine gw_sub [0, 1] rfl ?_
        exact hk78 _ _ h
      · replace h := if_f h c29
        refine gw_aload_n 71 0 hC dX8_qSums_71 rfl ?_
        obtain ⟨z30, ez30, h⟩ := opt_e h
        refine gw_callV (As := []) (rest := []) (st' := []) 72 0 hC (met_qDrops ez30 l) (lw_V q2212 q2214 qs83 q161 q2215) (by decide +kernel) (by decide) (m_recv hC) rfl rfl (Nat.le_of_ble_eq_true rfl) dX8_qSums_72 rfl ?_
        refine gw_goto 75 53 hC dX8_qSums_75 (by decide) ?_
        refine gw_sub [0, 1] rfl ?_
        exact ih _ _ h
theorem met_qSums {D : MD} {o : Nat} {s0 : MS} {res : Int × MS} (h : m_qSums s0 = some res) (l : Launch) : GMet l yX8_qSums cX8_qSums 3 none 7 (MRp D o) (MK D) (mAd o) [.ref o] s0 0 res := by
  refine GMet.of [(0, .ref o)] (by decide) (MK_moved D) (Nat.le_of_ble_eq_true rfl) rfl ?_
  intro p e s m args below meth c hC
  have hC : GC p s m args meth c cX8_qSums RX8 3 none (MK D) := hC
  unfold m_qSums at h
  refine gw_aload_n 0 0 hC dX8_qSums_0 rfl ?_
  refine mg_101 1 hC dX8_qSums_1 ?_
  obtain ⟨x1_1, ex1_1, h⟩ := bnd_e h
  refine gw_istore_n 4 [(1, J x1_1), (0, .ref o)] hC dX8_qSums_4 (by decide) ex1_1 rfl ?_
  refine gw_aload_n 5 1 hC dX8_qSums_5 rfl ?_
  refine gw_aload_n 6 1 hC dX8_qSums_6 rfl ?_
  refine mg_99 7 hC dX8_qSums_7 ?_
  obtain ⟨s2, es2, h⟩ := bnd_e h
  refine mp_101 10 hC (MIn_self o) es2 dX8_qSums_10 ?_
  refine gw_iconst 13 hC dX8_qSums_13 ?_
  obtain ⟨x2_3, ex2_3, h⟩ := bnd_e h
  refine gw_istore_n 14 [(2, J x2_3), (1, J x1_1), (0, .ref o)] hC dX8_qSums_14 (by decide) ex2_3 rfl ?_
  refine gw_sub [2, 1, 0] rfl ?_
  refine wm_qSums_L15 hC (fun x1_22 s23 h => ?_) FU _ _ _ h
  · refine gw_sub [0, 1] rfl ?_
    refine wm_qSums_L53 hC (fun x1_31 s32 h => ?_) FU _ _ h
    · refine gw_aload_n 78 0 hC dX8_qSums_78 rfl ?_
      refine gw_iload_n 79 1 hC dX8_qSums_79 rfl ?_
      obtain ⟨s33, es33, h⟩ := bnd_e h
      refine mp_101 80 hC (MIn_self o) es33 dX8_qSums_80 ?_
      exact gw_vret 83 hC dX8_qSums_83 h
/-! qFact()V -/
noncomputable def m_qFact (s0 : MS) : Option (Int × MS) :=
  Option.bind (m_takes 82 s0) fun z1 =>
  if i32 z1.1 = 0 then
    Option.bind (m_qSums z1.2) fun z3 =>
    if i32 (z3.2 5 0) = 0 then
      Option.bind (m_look z3.2) fun z5 =>
      bnd z5.1 fun x1_6 =>
      bnd (fun (x1_7 : Int) (s8 : MS) =>
          bnd (up s8 2 0 ((s8 2 0) + 1)) fun s9 =>
          Option.bind (m_qSums s9) fun z10 =>
          bnd (fun (w11 : Int) (s12 : MS) =>
              Option.bind (m_qCode w11 s12) fun z13 =>
              some (0, z13.2)) fun j14 =>
          if i32 x1_7 = i32 60 then
            j14 7 z10.2
          else
            if i32 x1_7 = i32 62 then
              j14 8 z10.2
            else
              j14 9 z10.2) fun j17 =>
      if i32 x1_6 = i32 60 then
        j17 x1_6 z5.2
      else
        if i32 x1_6 = i32 62 then
          j17 x1_6 z5.2
        else
          if i32 x1_6 = i32 61 then
            j17 x1_6 z5.2
          else
            Option.bind (m_fail 1 (z5.2 2 0) z5.2) fun z21 =>
            some (0, z21.2)
    else
      some (0, z3.2)
  else
    Option.bind (m_qCode 13 z1.2) fun z22 =>
    some (0, z22.2)
theorem met_qFact {D : MD} {o : Nat} {s0 : MS} {res : Int × MS} (h : m_qFact s0 = some res) (l : Launch) : GMet l yX8_qFact cX8_qFact 2 none 8 (MRp D o) (MK D) (mAd o) [.ref o] s0 0 res := by
  refine GMet.of [(0, .ref o)] (by decide) (MK_moved D) (Nat.le_of_ble_eq_true rfl) rfl ?_
  intro p e s m args below meth c hC
  have hC : GC p s m args meth c cX8_qFact RX8 2 none (MK D) := hC
  unfold m_qFact at h
  refine gw_aload_n 0 0 hC dX8_qFact_0 rfl ?_
  refine gw_aload_n 1 0 hC dX8_qFact_1 rfl ?_
  refine mg_82 2 hC dX8_qFact_2 ?_
  obtain ⟨z1, ez1, h⟩ := opt_e h
  refine gw_callV (As := [.ref (o + mO 82)]) (rest := []) (st' := [J z1.1]) 5 1 hC (met_takes ez1 l) (lw_V q2097 q2099 qs57 q161 q2100) (by decide +kernel) (by decide) (m_recv hC) rfl rfl (Nat.le_of_ble_eq_true rfl) dX8_qFact_5 rfl ?_
  refine gw_if_eq 8 18 hC dX8_qFact_8 (by decide) (fun c2 => ?_) (fun c2 => ?_)
  · replace h := if_t h c2
    refine gw_aload_n 18 0 hC dX8_qFact_18 rfl ?_
    obtain ⟨z3, ez3, h⟩ := opt_e h
    refine gw_callV (As := []) (rest := []) (st' := []) 19 0 hC (met_qSums ez3 l) (lw_V q2184 q2186 qs76 q161 q2187) (by decide +kernel) (by decide) (m_recv hC) rfl rfl (Nat.le_of_ble_eq_true rfl) dX8_qFact_19 rfl ?_
    refine gw_aload_n 22 0 hC dX8_qFact_22 rfl ?_
    refine mg_5 23 hC dX8_qFact_23 ?_
    refine gw_if_eq 26 30 hC dX8_qFact_26 (by decide) (fun c4 => ?_) (fun c4 => ?_)
    · replace h := if_t h c4
      refine gw_aload_n 30 0 hC dX8_qFact_30 rfl ?_
      obtain ⟨z5, ez5, h⟩ := opt_e h
      refine gw_callV (As := []) (rest := []) (st' := [J z5.1]) 31 0 hC (met_look ez5 l) (lw_V q2105 q2107 qs59 q161 q2108) (by decide +kernel) (by decide) (m_recv hC) rfl rfl (Nat.le_of_ble_eq_true rfl) dX8_qFact_31 rfl ?_
      obtain ⟨x1_6, ex1_6, h⟩ := bnd_e h
      refine gw_istore_n 34 [(1, J x1_6), (0, .ref o)] hC dX8_qFact_34 (by decide) ex1_6 rfl ?_
      refine gw_iload_n 35 0 hC dX8_qFact_35 rfl ?_
      refine gw_bipush 36 hC dX8_qFact_36 (by decide) ?_
      obtain ⟨j17, ej17, h⟩ := bnd_e h
      have hj17 : ∀ (x1_7 : Int) (s8 : MS), j17 x1_7 s8 = some res → GW p l e (rmd 8) s m args below meth c 2 (mAd o) (MRp D o) (MK D) 0 res s8 63 [(0, .ref o), (1, J x1_7)] [] := by
        clear h
        intro x1_7 s8 h
        subst ej17
        refine gw_aload_n 63 0 hC dX8_qFact_63 rfl ?_
        refine gw_dup 64 hC dX8_qFact_64 rfl ?_
        refine mg_2 65 hC dX8_qFact_65 ?_
        refine gw_iconst 68 hC dX8_qFact_68 ?_
        refine gw_iadd 69 hC dX8_qFact_69 ?_
        obtain ⟨s9, es9, h⟩ := bnd_e h
        refine mp_2 70 hC (MIn_self o) es9 dX8_qFact_70 ?_
        refine gw_aload_n 73 0 hC dX8_qFact_73 rfl ?_
        obtain ⟨z10, ez10, h⟩ := opt_e h
        refine gw_callV (As := []) (rest := []) (st' := []) 74 0 hC (met_qSums ez10 l) (lw_V q2184 q2186 qs76 q161 q2187) (by decide +kernel) (by decide) (m_recv hC) rfl rfl (Nat.le_of_ble_eq_true rfl) dX8_qFact_74 rfl ?_
        refine gw_aload_n 77 0 hC dX8_qFact_77 rfl ?_
        refine gw_iload_n 78 1 hC dX8_qFact_78 rfl ?_
        refine gw_bipush 79 hC dX8_qFact_79 (by decide) ?_
        obtain ⟨j14, ej14, h⟩ := bnd_e h
        have hj14 : ∀ (w11 : Int) (s12 : MS), j14 w11 s12 = some res → GW p l e (rmd 8) s m args below meth c 2 (mAd o) (MRp D o) (MK D) 0 res s12 102 [] [J w11, .ref o] := by
          clear h
          intro w11 s12 h
          subst ej14
          obtain ⟨z13, ez13, h⟩ := opt_e h
          refine gw_callV (As := [J w11]) (rest := []) (st' := []) 102 1 hC (met_qCode ez13 l) (lw_V q2180 q2182 qs75 q161 q2183) (by decide +kernel) (by decide) (m_recv hC) rfl rfl (Nat.le_of_ble_eq_true rfl) dX8_qFact_102 rfl ?_
          exact gw_vret 105 hC dX8_qFact_105 h
        refine gw_icmp_ne 81 89 hC dX8_qFact_81 (by decide) (fun c15 => ?_) (fun c15 => ?_)
        · replace h := if_f h c15
          refine gw_iload_n 89 1 hC dX8_qFact_89 rfl ?_
          refine gw_bipush 90 hC dX8_qFact_90 (by decide) ?_
          refine gw_icmp_ne 92 100 hC dX8_qFact_92 (by decide) (fun c16 => ?_) (fun c16 => ?_)
          · replace h := if_f h c16
            refine gw_bipush 100 hC dX8_qFact_100 (by decide) ?_
            refine gw_sub [] rfl ?_
            exact hj14 _ _ h
          · replace h := if_t h c16
            refine gw_bipush 95 hC dX8_qFact_95 (by decide) ?_
            refine gw_goto 97 102 hC dX8_qFact_97 (by decide) ?_
            refine gw_sub [] rfl ?_
            exact hj14 _ _ h
        · replace h := if_t h c15
          refine gw_bipush 84 hC dX8_qFact_84 (by decide) ?_
          refine gw_goto 86 102 hC dX8_qFact_86 (by decide) ?_
          refine gw_sub [] rfl ?_
          exact hj14 _ _ h
      refine gw_icmp_eq 38 63 hC dX8_qFact_38 (by decide) (fun c18 => ?_) (fun c18 => ?_)
      · replace h := if_t h c18
        refine gw_sub [1, 0] rfl ?_
        exact hj17 _ _ h
      · replace h := if_f h c18
        refine gw_iload_n 41 0 hC dX8_qFact_41 rfl ?_
        refine gw_bipush 42 hC dX8_qFact_42 (by decide) ?_
        refine gw_icmp_eq 44 63 hC dX8_qFact_44 (by decide) (fun c19 => ?_) (fun c19 => ?_)
        · replace h := if_t h c19
          refine gw_sub [1, 0] rfl ?_
          exact hj17 _ _ h
        · replace h := if_f h c19
          refine gw_iload_n 47 0 hC dX8_qFact_47 rfl ?_
          refine gw_bipush 48 hC dX8_qFact_48 (by decide) ?_
          refine gw_icmp_eq 50 63 hC dX8_qFact_50 (by decide) (fun c20 => ?_) (fun c20 => ?_)
          · replace h := if_t h c20
            refine gw_sub [1, 0] rfl ?_
            exact hj17 _ _ h
          · replace h := if_f h c20
            refine gw_aload_n 53 1 hC dX8_qFact_53 rfl ?_
            refine gw_iconst 54 hC dX8_qFact_54 ?_
            refine gw_aload_n 55 1 hC dX8_qFact_55 rfl ?_
            refine mg_2 56 hC dX8_qFact_56 ?_
            obtain ⟨z21, ez21, h⟩ := opt_e h
            refine gw_callV (As := [J 1, J (z5.2 2 0)]) (rest := []) (st' := []) 59 2 hC (met_fail ez21 l) (lw_V q2112 q2114 qs60 q161 q2115) (by decide +kernel) (by decide) (m_recv hC) rfl rfl (Nat.le_of_ble_eq_true rfl) dX8_qFact_59 rfl ?_
            exact gw_vret 62 hC dX8_qFact_62 h
    · replace h := if_f h c4
      exact gw_vret 29 hC dX8_qFact_29 h
  · replace h := if_f h c2
    refine gw_aload_n 11 0 hC dX8_qFact_11 rfl ?_
    refine gw_bipush 12 hC dX8_qFact_12 (by decide) ?_
    obtain ⟨z22, ez22, h⟩ := opt_e h
    refine gw_callV (As := [J 13]) (rest := []) (st' := []) 14 1 hC (met_qCode ez22 l) (lw_V q2180 q2182 qs75 q161 q2183) (by decide +kernel) (by decide) (m_recv hC) rfl rfl (Nat.le_of_ble_eq_true rfl) dX8_qFact_14 rfl ?_
    exact gw_vret 17 hC dX8_qFact_17 h
/-! qDropsNots()V -/
noncomputable def m_qDropsNots_L0 (k33 : MS → Option (Int × MS)) : Nat → MS → Option (Int × MS)
  | 0, _ => none
  | n + 1, s1 =>
    if i32 (s1 5 0) = 0 then
      Option.bind (m_qIsOn 12 s1) fun z4 =>
      if i32 z4.1 = 0 then
        k33 z4.2
      else
        bnd (up z4.2 100 0 ((z4.2 100 0) - 1)) fun s6 =>
        Option.bind (m_qDrops s6) fun z7 =>
        m_qDropsNots_L0 k33 n z7.2
    else
      k33 s1
noncomputable def m_qDropsNots (s0 : MS) : Option (Int × MS) :=
  m_qDropsNots_L0
    (fun (s8 : MS) =>
      some (0, s8))
    FU s0
theorem wm_qDropsNots_L0 {p : Program} {l : Launch} {e : Env} {s : State} {m : MethodId} {args : Array Value} {below : List Frame} {meth : Method} {c : Code} {D : MD} {o : Nat} {res : Int × MS} {k33 : MS → Option (Int × MS)} (hC : GC p s m args meth c cX8_qDropsNots RX8 1 none (MK D)) (hk33 : ∀ (s2 : MS), k33 s2 = some res → GW p l e (rmd 3) s m args below meth c 1 (mAd o) (MRp D o) (MK D) 0 res s2 33 [] []) : ∀ (n : Nat) (s1 : MS), m_qDropsNots_L0 k33 n s1 = some res → GW p l e (rmd 3) s m args below meth c 1 (mAd o) (MRp D o) (MK D) 0 res s1 0 [(0, .ref o)] [] := by
  intro n
  induction n with
  | zero =>
    intro s1 h
    cases h
  | succ n ih =>
    intro s1 h
    rw [m_qDropsNots_L0] at h
    refine gw_aload_n 0 0 hC dX8_qDropsNots_0 rfl ?_
    refine mg_5 1 hC dX8_qDropsNots_1 ?_
    refine gw_if_ne 4 33 hC dX8_qDropsNots_4 (by decide) (fun c3 => ?_) (fun c3 => ?_)
    · replace h := if_f h c3
      refine gw_sub [] rfl ?_
      exact hk33 _ h
    · replace h := if_t h c3
      refine gw_aload_n 7 0 hC dX8_qDropsNots_7 rfl ?_
      refine gw_bipush 8 hC dX8_qDropsNots_8 (by decide) ?_
      obtain ⟨z4, ez4, h⟩ := opt_e h
      refine gw_callV (As := [J 12]) (rest := []) (st' := [J z4.1]) 10 1 hC (met_qIsOn ez4 l) (lw_V q2231 q2233 qs87 q161 q2234) (by decide +kernel) (by decide) (m_recv hC) rfl rfl (Nat.le_of_ble_eq_true rfl) dX8_qDropsNots_10 rfl ?_
      refine gw_if_eq 13 33 hC dX8_qDropsNots_13 (by decide) (fun c5 => ?_) (fun c5 => ?_)
      · replace h := if_t h c5
        refine gw_sub [] rfl ?_
        exact hk33 _ h
      · replace h := if_f h c5
        refine gw_aload_n 16 0 hC dX8_qDropsNots_16 rfl ?_
        refine gw_dup 17 hC dX8_qDropsNots_17 rfl ?_
        refine mg_100 18 hC dX8_qDropsNots_18 ?_
        refine gw_iconst 21 hC dX8_qDropsNots_21 ?_
        refine gw_isub 22 hC dX8_qDropsNots_22 ?_
        obtain ⟨s6, es6, h⟩ := bnd_e h
        refine mp_100 23 hC (MIn_self o) es6 dX8_qDropsNots_23 ?_
        refine gw_aload_n 26 0 hC dX8_qDropsNots_26 rfl ?_
        obtain ⟨z7, ez7, h⟩ := opt_e h
        refine gw_callV (As := []) (rest := []) (st' := []) 27 0 hC (met_qDrops ez7 l) (lw_V q2212 q2214 qs83 q161 q2215) (by decide +kernel) (by decide) (m_recv hC) rfl rfl (Nat.le_of_ble_eq_true rfl) dX8_qDropsNots_27 rfl ?_
        refine gw_goto 30 0 hC dX8_qDropsNots_30 (by decide) ?_
        refine gw_sub [0] rfl ?_
        exact ih _ h
theorem met_qDropsNots {D : MD} {o : Nat} {s0 : MS} {res : Int × MS} (h : m_qDropsNots s0 = some res) (l : Launch) : GMet l yX8_qDropsNots cX8_qDropsNots 1 none 3 (MRp D o) (MK D) (mAd o) [.ref o] s0 0 res := by
  refine GMet.of [(0, .ref o)] (by decide) (MK_moved D) (Nat.le_of_ble_eq_true rfl) rfl ?_
  intro p e s m args below meth c hC
  have hC : GC p s m args meth c cX8_qDropsNots RX8 1 none (MK D) := hC
  unfold m_qDropsNots at h
  refine gw_sub [0] rfl ?_
  refine wm_qDropsNots_L0 hC (fun s8 h => ?_) FU _ h
  · exact gw_vret 33 hC dX8_qDropsNots_33 h
/-! qHasSquare()Z -/
noncomputable def m_qHasSquare_L2 (k29 : MS → Option (Int × MS)) (k21 : MS → Option (Int × MS)) : Nat → Int → MS → Option (Int × MS)
  | 0, _, _ => none
  | n + 1, x1_2, s3 =>
    if i32 (s3 99 0) ≤ i32 x1_2 then
      k29 s3
    else
      gd (ok 1700 x1_2) <|
      if i32 (s3 98 (i32 x1_2)) = i32 25 then
        k21 s3
      else
        bnd (x1_2 + 1) fun x1_9 =>
        m_qHasSquare_L2 k29 k21 n x1_9 s3
noncomputable def m_qHasSquare (s0 : MS) : Option (Int × MS) :=
  bnd 0 fun x1_1 =>
  m_qHasSquare_L2
    (fun (s10 : MS) =>
      some (0, s10))
    (fun (s11 : MS) =>
      some (1, s11))
    FU x1_1 s0
theorem wm_qHasSquare_L2 {p : Program} {l : Launch} {e : Env} {s : State} {m : MethodId} {args : Array Value} {below : List Frame} {meth : Method} {c : Code} {D : MD} {o : Nat} {res : Int × MS} {k29 : MS → Option (Int × MS)} {k21 : MS → Option (Int × MS)} (hC : GC p s m args meth c cX8_qHasSquare RX8 2 (some .boolean) (MK D)) (hk29 : ∀ (s4 : MS), k29 s4 = some res → GW p l e (rmd 1) s m args below meth c 2 (mAd o) (MRp D o) (MK D) 1 res s4 29 [] []) (hk21 : ∀ (s5 : MS), k21 s5 = some res → GW p l e (rmd 1) s m args below meth c 2 (mAd o) (MRp D o) (MK D) 1 res s5 21 [] []) : ∀ (n : Nat) (x1_2 : Int) (s3 : MS), m_qHasSquare_L2 k29 k21 n x1_2 s3 = some res → GW p l e (rmd 1) s m args below meth c 2 (mAd o) (MRp D o) (MK D) 1 res s3 2 [(0, .ref o), (1, J x1_2)] [] := by
  intro n
  induction n with
  | zero =>
    intro x1_2 s3 h
    cases h
  | succ n ih =>
    intro x1_2 s3 h
    rw [m_qHasSquare_L2] at h
    refine gw_iload_n 2 1 hC dX8_qHasSquare_2 rfl ?_
    refine gw_aload_n 3 0 hC dX8_qHasSquare_3 rfl ?_
    refine mg_99 4 hC dX8_qHasSquare_4 ?_
    refine gw_icmp_ge 7 29 hC dX8_qHasSquare_7 (by decide) (fun c6 => ?_) (fun c6 => ?_)
    · replace h := if_t h c6
      refine gw_sub [] rfl ?_
      exact hk29 _ h
    · replace h := if_f h c6
      refine gw_aload_n 10 0 hC dX8_qHasSquare_10 rfl ?_
      refine mg_98 11 hC dX8_qHasSquare_11 ?_
      refine gw_iload_n 14 1 hC dX8_qHasSquare_14 rfl ?_
      obtain ⟨g7, h⟩ := gd_e h
      refine m_iald 15 98 hC (by decide) rfl g7 dX8_qHasSquare_15 ?_
      refine gw_bipush 16 hC dX8_qHasSquare_16 (by decide) ?_
      refine gw_icmp_ne 18 23 hC dX8_qHasSquare_18 (by decide) (fun c8 => ?_) (fun c8 => ?_)
      · replace h := if_f h c8
        obtain ⟨x1_9, ex1_9, h⟩ := bnd_e h
        refine gw_iinc 23 1 [(1, J x1_9), (0, .ref o)] hC dX8_qHasSquare_23 rfl ex1_9 (by decide) rfl ?_
        refine gw_goto 26 2 hC dX8_qHasSquare_26 (by decide) ?_
        refine gw_sub [1, 0] rfl ?_
        exact ih _ _ h
      · replace h := if_t h c8
        refine gw_sub [] rfl ?_
        exact hk21 _ h
theorem met_qHasSquare {D : MD} {o : Nat} {s0 : MS} {res : Int × MS} (h : m_qHasSquare s0 = some res) (l : Launch) : GMet l yX8_qHasSquare cX8_qHasSquare 2 (some .boolean) 1 (MRp D o) (MK D) (mAd o) [.ref o] s0 1 res := by
  refine GMet.of [(0, .ref o)] (by decide) (MK_moved D) (Nat.le_of_ble_eq_true rfl) rfl ?_
  intro p e s m args below meth c hC
  have hC : GC p s m args meth c cX8_qHasSquare RX8 2 (some .boolean) (MK D) := hC
  unfold m_qHasSquare at h
  refine gw_iconst 0 hC dX8_qHasSquare_0 ?_
  obtain ⟨x1_1, ex1_1, h⟩ := bnd_e h
  refine gw_istore_n 1 [(1, J x1_1), (0, .ref o)] hC dX8_qHasSquare_1 (by decide) ex1_1 rfl ?_
  refine gw_sub [1, 0] rfl ?_
  refine wm_qHasSquare_L2 hC (fun s10 h => ?_) (fun s11 h => ?_) FU _ _ h
  · refine gw_iconst 29 hC dX8_qHasSquare_29 ?_
    exact gw_zret 30 hC dX8_qHasSquare_30 (by decide) h
  · refine gw_iconst 21 hC dX8_qHasSquare_21 ?_
    exact gw_zret 22 hC dX8_qHasSquare_22 (by decide) h
/-! qGoesOnTest()Z -/
noncomputable def m_qGoesOnTest_L33 (k49 : MS → Option (Int × MS)) : Nat → MS → Option (Int × MS)
  | 0, _ => none
  | n + 1, s9 =>
    Option.bind (m_qIsOn 25 s9) fun z11 =>
    if i32 z11.1 = 0 then
      Option.bind (m_qDrops z11.2) fun z13 =>
      m_qGoesOnTest_L33 k49 n z13.2
    else
      k49 z11.2
noncomputable def m_qGoesOnTest_L0 (k76 : MS → Option (Int × MS)) : Nat → MS → Option (Int × MS)
  | 0, _ => none
  | n + 1, s1 =>
    if i32 (s1 5 0) = 0 then
      Option.bind (m_look s1) fun z4 =>
      if i32 z4.1 = i32 93 then
        Option.bind (m_qHasSquare z4.2) fun z6 =>
        if i32 z6.1 = 0 then
          k76 z6.2
        else
          bnd (up z6.2 2 0 ((z6.2 2 0) + 1)) fun s8 =>
          m_qGoesOnTest_L33
            (fun (s14 : MS) =>
              bnd (up s14 99 0 ((s14 99 0) - 1)) fun s15 =>
              bnd (up s15 100 0 ((s15 100 0) - 1)) fun s16 =>
              Option.bind (m_qDropsNots s16) fun z17 =>
              m_qGoesOnTest_L0 k76 n z17.2)
            FU s8
      else
        k76 z4.2
    else
      k76 s1
noncomputable def m_qGoesOnTest_L137 (k162 : MS → Option (Int × MS)) : Nat → MS → Option (Int × MS)
  | 0, _ => none
  | n + 1, s27 =>
    Option.bind (m_qIsOn 10 s27) fun z29 =>
    bnd (fun (s30 : MS) =>
        Option.bind (m_qDrops s30) fun z31 =>
        m_qGoesOnTest_L137 k162 n z31.2) fun j32 =>
    if i32 z29.1 = 0 then
      Option.bind (m_qIsOn 11 z29.2) fun z34 =>
      if i32 z34.1 = 0 then
        k162 z34.2
      else
        j32 z34.2
    else
      j32 z29.2
noncomputable def m_qGoesOnTest_L87 (k103 : MS → Option (Int × MS)) : Nat → MS → Option (Int × MS)
  | 0, _ => none
  | n + 1, s40 =>
    Option.bind (m_qIsOn 10 s40) fun z42 =>
    if i32 z42.1 = 0 then
      k103 z42.2
    else
      Option.bind (m_qDrops z42.2) fun z44 =>
      m_qGoesOnTest_L87 k103 n z44.2
noncomputable def m_qGoesOnTest (s0 : MS) : Option (Int × MS) :=
  m_qGoesOnTest_L0
    (fun (s18 : MS) =>
      Option.bind (m_takes 80 s18) fun z19 =>
      if i32 z19.1 = 0 then
        Option.bind (m_takes 81 z19.2) fun z21 =>
        if i32 z21.1 = 0 then
          if i32 (z21.2 5 0) = 0 then
            Option.bind (m_qHasSquare z21.2) fun z24 =>
            if i32 z24.1 = 0 then
              some (0, z24.2)
            else
              Option.bind (m_fail 1 (z24.2 2 0) z24.2) fun z26 =>
              some (0, z26.2)
          else
            some (0, z21.2)
        else
          m_qGoesOnTest_L137
            (fun (s36 : MS) =>
              gd (ok 1700 (s36 99 0)) <|
              bnd (up s36 98 (i32 (s36 99 0)) 11) fun s38 =>
              bnd (up s38 99 0 ((s38 99 0) + 1)) fun s39 =>
              some (1, s39))
            FU z21.2
      else
        m_qGoesOnTest_L87
          (fun (s45 : MS) =>
            gd (ok 1700 (s45 99 0)) <|
            bnd (up s45 98 (i32 (s45 99 0)) 10) fun s47 =>
            bnd (up s47 99 0 ((s47 99 0) + 1)) fun s48 =>
            some (1, s48))
          FU z19.2)
    FU s0
theorem wm_qGoesOnTest_L33 {p : Program} {l : Launch} {e : Env} {s : State} {m : MethodId} {args : Array Value} {below : List Frame} {meth : Method} {c : Code} {D : MD} {o : Nat} {res : Int × MS} {k49 : MS → Option (Int × MS)} (hC : GC p s m args meth c cX8_qGoesOnTest RX8 1 (some .boolean) (MK D)) (hk49 : ∀ (s10 : MS), k49 s10 = some res → GW p l e (rmd 4) s m args below meth c 1 (mAd o) (MRp D o) (MK D) 1 res s10 49 [(0, .ref o)] []) : ∀ (n : Nat) (s9 : MS), m_qGoesOnTest_L33 k49 n s9 = some res → GW p l e (rmd 4) s m args below meth c 1 (mAd o) (MRp D o) (MK D) 1 res s9 33 [(0, .ref o)] [] := by
  intro n
  induction n with
  | zero =>
    intro s9 h
    cases h
  | succ n ih =>
    intro s9 h
    rw [m_qGoesOnTest_L33] at h
    refine gw_aload_n 33 0 hC dX8_qGoesOnTest_33 rfl ?_
    refine gw_bipush 34 hC dX8_qGoesOnTest_34 (by decide) ?_
    obtain ⟨z11, ez11, h⟩ := opt_e h
    refine gw_callV (As := [J 25]) (rest := []) (st' := [J z11.1]) 36 1 hC (met_qIsOn ez11 l) (lw_V q2231 q2233 qs87 q161 q2234) (by decide +kernel) (by decide) (m_recv hC) rfl rfl (Nat.le_of_ble_eq_true rfl) dX8_qGoesOnTest_36 rfl ?_
    refine gw_if_ne 39 49 hC dX8_qGoesOnTest_39 (by decide) (fun c12 => ?_) (fun c12 => ?_)
    · replace h := if_f h c12
      refine gw_sub [0] rfl ?_
      exact hk49 _ h
    · replace h := if_t h c12
      refine gw_aload_n 42 0 hC dX8_qGoesOnTest_42 rfl ?_
      obtain ⟨z13, ez13, h⟩ := opt_e h
      refine gw_callV (As := []) (rest := []) (st' := []) 43 0 hC (met_qDrops ez13 l) (lw_V q2212 q2214 qs83 q161 q2215) (by decide +kernel) (by decide) (m_recv hC) rfl rfl (Nat.le_of_ble_eq_true rfl) dX8_qGoesOnTest_43 rfl ?_
      refine gw_goto 46 33 hC dX8_qGoesOnTest_46 (by decide) ?_
      refine gw_sub [0] rfl ?_
      exact ih _ h
theorem wm_qGoesOnTest_L0 {p : Program} {l : Launch} {e : Env} {s : State} {m : MethodId} {args : Array Value} {below : List Frame} {meth : Method} {c : Code} {D : MD} {o : Nat} {res : Int × MS} {k76 : MS → Option (Int × MS)} (hC : GC p s m args meth c cX8_qGoesOnTest RX8 1 (some .boolean) (MK D)) (hk76 : ∀ (s2 : MS), k76 s2 = some res → GW p l e (rmd 4) s m args below meth c 1 (mAd o) (MRp D o) (MK D) 1 res s2 76 [(0, .ref o)] []) : ∀ (n : Nat) (s1 : MS), m_qGoesOnTest_L0 k76 n s1 = some res → GW p l e (rmd 4) s m args below meth c 1 (mAd o) (MRp D o) (MK D) 1 res s1 0 [(0, .ref o)] [] := by
  intro n
  induction n with
  | zero =>
    intro s1 h
    cases h
  | succ n ih =>
    intro s1 h
    rw [m_qGoesOnTest_L0] at h
    refine gw_aload_n 0 0 hC dX8_qGoesOnTest_0 rfl ?_
    refine mg_5 1 hC dX8_qGoesOnTest_1 ?_
    refine gw_if_ne 4 76 hC dX8_qGoesOnTest_4 (by decide) (fun c3 => ?_) (fun c3 => ?_)
    · replace h := if_f h c3
      refine gw_sub [0] rfl ?_
      exact hk76 _ h
    · replace h := if_t h c3
      refine gw_aload_n 7 0 hC dX8_qGoesOnTest_7 rfl ?_
      obtain ⟨z4, ez4, h⟩ := opt_e h
      refine gw_callV (As := []) (rest := []) (st' := [J z4.1]) 8 0 hC (met_look ez4 l) (lw_V q2105 q2107 qs59 q161 q2108) (by decide +kernel) (by decide) (m_recv hC) rfl rfl (Nat.le_of_ble_eq_true rfl) dX8_qGoesOnTest_8 rfl ?_
      refine gw_bipush 11 hC dX8_qGoesOnTest_11 (by decide) ?_
      refine gw_icmp_ne 13 76 hC dX8_qGoesOnTest_13 (by decide) (fun c5 => ?_) (fun c5 => ?_)
      · replace h := if_f h c5
        refine gw_sub [0] rfl ?_
        exact hk76 _ h
      · replace h := if_t h c5
        refine gw_aload_n 16 0 hC dX8_qGoesOnTest_16 rfl ?_
        obtain ⟨z6, ez6, h⟩ := opt_e h
        refine gw_callV (As := []) (rest := []) (st' := [J z6.1]) 17 0 hC (met_qHasSquare ez6 l) (lw_V q2243 q2245 qs90 q161 q2246) (by decide +kernel) (by decide) (m_recv hC) rfl rfl (Nat.le_of_ble_eq_true rfl) dX8_qGoesOnTest_17 rfl ?_
        refine gw_if_eq 20 76 hC dX8_qGoesOnTest_20 (by decide) (fun c7 => ?_) (fun c7 => ?_)
        · replace h := if_t h c7
          refine gw_sub [0] rfl ?_
          exact hk76 _ h
        · replace h := if_f h c7
          refine gw_aload_n 23 0 hC dX8_qGoesOnTest_23 rfl ?_
          refine gw_dup 24 hC dX8_qGoesOnTest_24 rfl ?_
          refine mg_2 25 hC dX8_qGoesOnTest_25 ?_
          refine gw_iconst 28 hC dX8_qGoesOnTest_28 ?_
          refine gw_iadd 29 hC dX8_qGoesOnTest_29 ?_
          obtain ⟨s8, es8, h⟩ := bnd_e h
          refine mp_2 30 hC (MIn_self o) es8 dX8_qGoesOnTest_30 ?_
          refine gw_sub [0] rfl ?_
          refine wm_qGoesOnTest_L33 hC (fun s14 h => ?_) FU _ h
          · refine gw_aload_n 49 0 hC dX8_qGoesOnTest_49 rfl ?_
            refine gw_dup 50 hC dX8_qGoesOnTest_50 rfl ?_
            refine mg_99 51 hC dX8_qGoesOnTest_51 ?_
            refine gw_iconst 54 hC dX8_qGoesOnTest_54 ?_
            refine gw_isub 55 hC dX8_qGoesOnTest_55 ?_
            obtain ⟨s15, es15, h⟩ := bnd_e h
            refine mp_99 56 hC (MIn_self o) es15 dX8_qGoesOnTest_56 ?_
            refine gw_aload_n 59 0 hC dX8_qGoesOnTest_59 rfl ?_
            refine gw_dup 60 hC dX8_qGoesOnTest_60 rfl ?_
            refine mg_100 61 hC dX8_qGoesOnTest_61 ?_
            refine gw_iconst 64 hC dX8_qGoesOnTest_64 ?_
            refine gw_isub 65 hC dX8_qGoesOnTest_65 ?_
            obtain ⟨s16, es16, h⟩ := bnd_e h
            refine mp_100 66 hC (MIn_self o) es16 dX8_qGoesOnTest_66 ?_
            refine gw_aload_n 69 0 hC dX8_qGoesOnTest_69 rfl ?_
            obtain ⟨z17, ez17, h⟩ := opt_e h
            refine gw_callV (As := []) (rest := []) (st' := []) 70 0 hC (met_qDropsNots ez17 l) (lw_V q2235 q2237 qs88 q161 q2238) (by decide +kernel) (by decide) (m_recv hC) rfl rfl (Nat.le_of_ble_eq_true rfl) dX8_qGoesOnTest_70 rfl ?_
            refine gw_goto 73 0 hC dX8_qGoesOnTest_73 (by decide) ?_
            refine gw_sub [0] rfl ?_
            exact ih _ h
theorem wm_qGoesOnTest_L137 {p : Program} {l : Launch} {e : Env} {s : State} {m : MethodId} {args : Array Value} {below : List Frame} {meth : Method} {c : Code} {D : MD} {o : Nat} {res : Int × MS} {k162 : MS → Option (Int × MS)} (hC : GC p s m args meth c cX8_qGoesOnTest RX8 1 (some .boolean) (MK D)) (hk162 : ∀ (s28 : MS), k162 s28 = some res → GW p l e (rmd 4) s m args below meth c 1 (mAd o) (MRp D o) (MK D) 1 res s28 162 [(0, .ref o)] []) : ∀ (n : Nat) (s27 : MS), m_qGoesOnTest_L137 k162 n s27 = some res → GW p l e (rmd 4) s m args below meth c 1 (mAd o) (MRp D o) (MK D) 1 res s27 137 [(0, .ref o)] [] := by
  intro n
  induction n with
  | zero =>
    intro s27 h
    cases h
  | succ n ih =>
    intro s27 h
    rw [m_qGoesOnTest_L137] at h
    refine gw_aload_n 137 0 hC dX8_qGoesOnTest_137 rfl ?_
    refine gw_bipush 138 hC dX8_qGoesOnTest_138 (by decide) ?_
    obtain ⟨z29, ez29, h⟩ := opt_e h
    refine gw_callV (As := [J 10]) (rest := []) (st' := [J z29.1]) 140 1 hC (met_qIsOn ez29 l) (lw_V q2231 q2233 qs87 q161 q2234) (by decide +kernel) (by decide) (m_recv hC) rfl rfl (Nat.le_of_ble_eq_true rfl) dX8_qGoesOnTest_140 rfl ?_
    obtain ⟨j32, ej32, h⟩ := bnd_e h
    have hj32 : ∀ (s30 : MS), j32 s30 = some res → GW p l e (rmd 4) s m args below meth c 1 (mAd o) (MRp D o) (MK D) 1 res s30 155 [(0, .ref o)] [] := by
      clear h
      intro s30 h
      subst ej32
      refine gw_aload_n 155 0 hC dX8_qGoesOnTest_155 rfl ?_
      obtain ⟨z31, ez31, h⟩ := opt_e h
      refine gw_callV (As := []) (rest := []) (st' := []) 156 0 hC (met_qDrops ez31 l) (lw_V q2212 q2214 qs83 q161 q2215) (by decide +kernel) (by decide) (m_recv hC) rfl rfl (Nat.le_of_ble_eq_true rfl) dX8_qGoesOnTest_156 rfl ?_
      refine gw_goto 159 137 hC dX8_qGoesOnTest_159 (by decide) ?_
      refine gw_sub [0] rfl ?_
      exact ih _ h
    refine gw_if_ne 143 155 hC dX8_qGoesOnTest_143 (by decide) (fun c33 => ?_) (fun c33 => ?_)
    · replace h := if_f h c33
      refine gw_sub [0] rfl ?_
      exact hj32 _ h
    · replace h := if_t h c33
      refine gw_aload_n 146 0 hC dX8_qGoesOnTest_146 rfl ?_
      refine gw_bipush 147 hC dX8_qGoesOnTest_147 (by decide) ?_
      obtain ⟨z34, ez34, h⟩ := opt_e h
      refine gw_callV (As := [J 11]) (rest := []) (st' := [J z34.1]) 149 1 hC (met_qIsOn ez34 l) (lw_V q2231 q2233 qs87 q161 q2234) (by decide +kernel) (by decide) (m_recv hC) rfl rfl (Nat.le_of_ble_eq_true rfl) dX8_qGoesOnTest_149 rfl ?_
      refine gw_if_eq 152 162 hC dX8_qGoesOnTest_152 (by decide) (fun c35 => ?_) (fun c35 => ?_)
      · replace h := if_t h c35
        refine gw_sub [0] rfl ?_
        exact hk162 _ h
      · replace h := if_f h c35
        refine gw_sub [0] rfl ?_
        exact hj32 _ h
theorem wm_qGoesOnTest_L87 {p : Program} {l : Launch} {e : Env} {s : State} {m : MethodId} {args : Array Value} {below : List Frame} {meth : Method} {c : Code} {D : MD} {o : Nat} {res : Int × MS} {k103 : MS → Option (Int × MS)} (hC : GC p s m args meth c cX8_qGoesOnTest RX8 1 (some .boolean) (MK D)) (hk103 : ∀ (s41 : MS), k103 s41 = some res → GW p l e (rmd 4) s m args below meth c 1 (mAd o) (MRp D o) (MK D) 1 res s41 103 [(0, .ref o)] []) : ∀ (n : Nat) (s40 : MS), m_qGoesOnTest_L87 k103 n s40 = some res → GW p l e (rmd 4) s m args below meth c 1 (mAd o) (MRp D o) (MK D) 1 res s40 87 [(0, .ref o)] [] := by
  intro n
  induction n with
  | zero =>
    intro s40 h
    cases h
  | succ n ih =>
    intro s40 h
    rw [m_qGoesOnTest_L87] at h
    refine gw_aload_n 87 0 hC dX8_qGoesOnTest_87 rfl ?_
    refine gw_bipush 88 hC dX8_qGoesOnTest_88 (by decide) ?_
    obtain ⟨z42, ez42, h⟩ := opt_e h
    refine gw_callV (As := [J 10]) (rest := []) (st' := [J z42.1]) 90 1 hC (met_qIsOn ez42 l) (lw_V q2231 q2233 qs87 q161 q2234) (by decide +kernel) (by decide) (m_recv hC) rfl rfl (Nat.le_of_ble_eq_true rfl) dX8_qGoesOnTest_90 rfl ?_
    refine gw_if_eq 93 103 hC dX8_qGoesOnTest_93 (by decide) (fun c43 => ?_) (fun c43 => ?_)
    · replace h := if_t h c43
      refine gw_sub [0] rfl ?_
      exact hk103 _ h
    · replace h := if_f h c43
      refine gw_aload_n 96 0 hC dX8_qGoesOnTest_96 rfl ?_
      obtain ⟨z44, ez44, h⟩ := opt_e h
      refine gw_callV (As := []) (rest := []) (st' := []) 97 0 hC (met_qDrops ez44 l) (lw_V q2212 q2214 qs83 q161 q2215) (by decide +kernel) (by decide) (m_recv hC) rfl rfl (Nat.le_of_ble_eq_true rfl) dX8_qGoesOnTest_97 rfl ?_
      refine gw_goto 100 87 hC dX8_qGoesOnTest_100 (by decide) ?_
      refine gw_sub [0] rfl ?_
      exact ih _ h
theorem met_qGoesOnTest {D : MD} {o : Nat} {s0 : MS} {res : Int × MS} (h : m_qGoesOnTest s0 = some res) (l : Launch) : GMet l yX8_qGoesOnTest cX8_qGoesOnTest 1 (some .boolean) 4 (MRp D o) (MK D) (mAd o) [.ref o] s0 1 res := by
  refine GMet.of [(0, .ref o)] (by decide) (MK_moved D) (Nat.le_of_ble_eq_true rfl) rfl ?_
  intro p e s m args below meth c hC
  have hC : GC p s m args meth c cX8_qGoesOnTest RX8 1 (some .boolean) (MK D) := hC
  unfold m_qGoesOnTest at h
  refine gw_sub [0] rfl ?_
  refine wm_qGoesOnTest_L0 hC (fun s18 h => ?_) FU _ h
  · refine gw_aload_n 76 0 hC dX8_qGoesOnTest_76 rfl ?_
    refine gw_aload_n 77 0 hC dX8_qGoesOnTest_77 rfl ?_
    refine mg_80 78 hC dX8_qGoesOnTest_78 ?_
    obtain ⟨z19, ez19, h⟩ := opt_e h
    refine gw_callV (As := [.ref (o + mO 80)]) (rest := []) (st' := [J z19.1]) 81 1 hC (met_takes ez19 l) (lw_V q2097 q2099 qs57 q161 q2100) (by decide +kernel) (by decide) (m_recv hC) rfl rfl (Nat.le_of_ble_eq_true rfl) dX8_qGoesOnTest_81 rfl ?_
    refine gw_if_eq 84 126 hC dX8_qGoesOnTest_84 (by decide) (fun c20 => ?_) (fun c20 => ?_)
    · replace h := if_t h c20
      refine gw_aload_n 126 0 hC dX8_qGoesOnTest_126 rfl ?_
      refine gw_aload_n 127 0 hC dX8_qGoesOnTest_127 rfl ?_
      refine mg_81 128 hC dX8_qGoesOnTest_128 ?_
      obtain ⟨z21, ez21, h⟩ := opt_e h
      refine gw_callV (As := [.ref (o + mO 81)]) (rest := []) (st' := [J z21.1]) 131 1 hC (met_takes ez21 l) (lw_V q2097 q2099 qs57 q161 q2100) (by decide +kernel) (by decide) (m_recv hC) rfl rfl (Nat.le_of_ble_eq_true rfl) dX8_qGoesOnTest_131 rfl ?_
      refine gw_if_eq 134 185 hC dX8_qGoesOnTest_134 (by decide) (fun c22 => ?_) (fun c22 => ?_)
      · replace h := if_t h c22
        refine gw_aload_n 185 0 hC dX8_qGoesOnTest_185 rfl ?_
        refine mg_5 186 hC dX8_qGoesOnTest_186 ?_
        refine gw_if_ne 189 208 hC dX8_qGoesOnTest_189 (by decide) (fun c23 => ?_) (fun c23 => ?_)
        · replace h := if_f h c23
          refine gw_iconst 208 hC dX8_qGoesOnTest_208 ?_
          exact gw_zret 209 hC dX8_qGoesOnTest_209 (by decide) h
        · replace h := if_t h c23
          refine gw_aload_n 192 0 hC dX8_qGoesOnTest_192 rfl ?_
          obtain ⟨z24, ez24, h⟩ := opt_e h
          refine gw_callV (As := []) (rest := []) (st' := [J z24.1]) 193 0 hC (met_qHasSquare ez24 l) (lw_V q2243 q2245 qs90 q161 q2246) (by decide +kernel) (by decide) (m_recv hC) rfl rfl (Nat.le_of_ble_eq_true rfl) dX8_qGoesOnTest_193 rfl ?_
          refine gw_if_eq 196 208 hC dX8_qGoesOnTest_196 (by decide) (fun c25 => ?_) (fun c25 => ?_)
          · replace h := if_t h c25
            refine gw_iconst 208 hC dX8_qGoesOnTest_208 ?_
            exact gw_zret 209 hC dX8_qGoesOnTest_209 (by decide) h
          · replace h := if_f h c25
            refine gw_aload_n 199 0 hC dX8_qGoesOnTest_199 rfl ?_
            refine gw_iconst 200 hC dX8_qGoesOnTest_200 ?_
            refine gw_aload_n 201 0 hC dX8_qGoesOnTest_201 rfl ?_
            refine mg_2 202 hC dX8_qGoesOnTest_202 ?_
            obtain ⟨z26, ez26, h⟩ := opt_e h
            refine gw_callV (As := [J 1, J (z24.2 2 0)]) (rest := []) (st' := []) 205 2 hC (met_fail ez26 l) (lw_V q2112 q2114 qs60 q161 q2115) (by decide +kernel) (by decide) (m_recv hC) rfl rfl (Nat.le_of_ble_eq_true rfl) dX8_qGoesOnTest_205 rfl ?_
            refine gw_iconst 208 hC dX8_qGoesOnTest_208 ?_
            exact gw_zret 209 hC dX8_qGoesOnTest_209 (by decide) h
      · replace h := if_f h c22
        refine gw_sub [0] rfl ?_
        refine wm_qGoesOnTest_L137 hC (fun s36 h => ?_) FU _ h
        · refine gw_aload_n 162 0 hC dX8_qGoesOnTest_162 rfl ?_
          refine mg_98 163 hC dX8_qGoesOnTest_163 ?_
          refine gw_aload_n 166 0 hC dX8_qGoesOnTest_166 rfl ?_
          refine mg_99 167 hC dX8_qGoesOnTest_167 ?_
          refine gw_bipush 170 hC dX8_qGoesOnTest_170 (by decide) ?_
          obtain ⟨g37, h⟩ := gd_e h
          obtain ⟨s38, es38, h⟩ := bnd_e h
          refine m_iast 172 98 hC (MIn_self o) (by decide) rfl g37 es38 dX8_qGoesOnTest_172 ?_
          refine gw_aload_n 173 0 hC dX8_qGoesOnTest_173 rfl ?_
          refine gw_dup 174 hC dX8_qGoesOnTest_174 rfl ?_
          refine mg_99 175 hC dX8_qGoesOnTest_175 ?_
          refine gw_iconst 178 hC dX8_qGoesOnTest_178 ?_
          refine gw_iadd 179 hC dX8_qGoesOnTest_179 ?_
          obtain ⟨s39, es39, h⟩ := bnd_e h
          refine mp_99 180 hC (MIn_self o) es39 dX8_qGoesOnTest_180 ?_
          refine gw_iconst 183 hC dX8_qGoesOnTest_183 ?_
          exact gw_zret 184 hC dX8_qGoesOnTest_184 (by decide) h
    · replace h := if_f h c20
      refine gw_sub [0] rfl ?_
      refine wm_qGoesOnTest_L87 hC (fun s45 h => ?_) FU _ h
      · refine gw_aload_n 103 0 hC dX8_qGoesOnTest_103 rfl ?_
        refine mg_98 104 hC dX8_qGoesOnTest_104 ?_
        refine gw_aload_n 107 0 hC dX8_qGoesOnTest_107 rfl ?_
        refine mg_99 108 hC dX8_qGoesOnTest_108 ?_
        refine gw_bipush 111 hC dX8_qGoesOnTest_111 (by decide) ?_
        obtain ⟨g46, h⟩ := gd_e h
        obtain ⟨s47, es47, h⟩ := bnd_e h
        refine m_iast 113 98 hC (MIn_self o) (by decide) rfl g46 es47 dX8_qGoesOnTest_113 ?_
        refine gw_aload_n 114 0 hC dX8_qGoesOnTest_114 rfl ?_
        refine gw_dup 115 hC dX8_qGoesOnTest_115 rfl ?_
        refine mg_99 116 hC dX8_qGoesOnTest_116 ?_
        refine gw_iconst 119 hC dX8_qGoesOnTest_119 ?_
        refine gw_iadd 120 hC dX8_qGoesOnTest_120 ?_
        obtain ⟨s48, es48, h⟩ := bnd_e h
        refine mp_99 121 hC (MIn_self o) es48 dX8_qGoesOnTest_121 ?_
        refine gw_iconst 124 hC dX8_qGoesOnTest_124 ?_
        exact gw_zret 125 hC dX8_qGoesOnTest_125 (by decide) h
/-! qTest()V -/
noncomputable def m_qTest_L2 (k110 : MS → Option (Int × MS)) : Nat → Int → MS → Option (Int × MS)
  | 0, _, _ => none
  | n + 1, x1_2, s3 =>
    if i32 x1_2 = 0 then
      k110 s3
    else
      if i32 (s3 5 0) = 0 then
        Option.bind (m_look s3) fun z7 =>
        bnd z7.1 fun x2_8 =>
        if i32 x2_8 = i32 91 then
          Option.bind (m_qOpens 25 (z7.2 2 0) z7.2) fun z24 =>
          bnd (up z24.2 2 0 ((z24.2 2 0) + 1)) fun s25 =>
          m_qTest_L2 k110 n x1_2 s25
        else
          Option.bind (m_isHere 79 z7.2) fun z10 =>
          if i32 z10.1 = 0 then
            Option.bind (m_qFact z10.2) fun z12 =>
            Option.bind (m_qDropsNots z12.2) fun z13 =>
            bnd (fun (w14 : Int) (s15 : MS) =>
                m_qTest_L2 k110 n w14 s15) fun j16 =>
            bnd (fun (s17 : MS) =>
                j16 0 s17) fun j18 =>
            if i32 (z13.2 5 0) = 0 then
              Option.bind (m_qGoesOnTest z13.2) fun z20 =>
              if i32 z20.1 = 0 then
                j18 z20.2
              else
                j16 1 z20.2
            else
              j18 z13.2
          else
            Option.bind (m_qOpens 12 (z10.2 2 0) z10.2) fun z22 =>
            Option.bind (m_asks 79 z22.2) fun z23 =>
            m_qTest_L2 k110 n x1_2 z23.2
      else
        k110 s3
noncomputable def m_qTest_L110 (k131 : MS → Option (Int × MS)) : Nat → MS → Option (Int × MS)
  | 0, _ => none
  | n + 1, s27 =>
    if i32 (s27 5 0) = 0 then
      if i32 (s27 99 0) ≤ 0 then
        k131 s27
      else
        Option.bind (m_qDrops s27) fun z31 =>
        m_qTest_L110 k131 n z31.2
    else
      k131 s27
noncomputable def m_qTest (s0 : MS) : Option (Int × MS) :=
  bnd 1 fun x1_1 =>
  m_qTest_L2
    (fun (s26 : MS) =>
      m_qTest_L110
        (fun (s32 : MS) =>
          some (0, s32))
        FU s26)
    FU x1_1 s0
theorem wm_qTest_L2 {p : Program} {l : Launch} {e : Env} {s : State} {m : MethodId} {args : Array Value} {below : List Frame} {meth : Method} {c : Code} {D : MD} {o : Nat} {res : Int × MS} {k110 : MS → Option (Int × MS)} (hC : GC p s m args meth c cX8_qTest RX8 3 none (MK D)) (hk110 : ∀ (s4 : MS), k110 s4 = some res → GW p l e (rmd 9) s m args below meth c 3 (mAd o) (MRp D o) (MK D) 0 res s4 110 [(0, .ref o)] []) : ∀ (n : Nat) (x1_2 : Int) (s3 : MS), m_qTest_L2 k110 n x1_2 s3 = some res → GW p l e (rmd 9) s m args below meth c 3 (mAd o) (MRp D o) (MK D) 0 res s3 2 [(0, .ref o), (1, J x1_2)] [] := by
  intro n
  induction n with
  | zero =>
    intro x1_2 s3 h
    cases h
  | succ n ih =>
    intro x1_2 s3 h
    rw [m_qTest_L2] at h
    refine gw_iload_n 2 1 hC dX8_qTest_2 rfl ?_
    refine gw_if_eq 3 110 hC dX8_qTest_3 (by decide) (fun c5 => ?_) (fun c5 => ?_)
    · replace h := if_t h c5
      refine gw_sub [0] rfl ?_
      exact hk110 _ h
    · replace h := if_f h c5
      refine gw_aload_n 6 0 hC dX8_qTest_6 rfl ?_
      refine mg_5 7 hC dX8_qTest_7 ?_
      refine gw_if_ne 10 110 hC dX8_qTest_10 (by decide) (fun c6 => ?_) (fun c6 => ?_)
      · replace h := if_f h c6
        refine gw_sub [0] rfl ?_
        exact hk110 _ h
      · replace h := if_t h c6
        refine gw_aload_n 13 0 hC dX8_qTest_13 rfl ?_
        obtain ⟨z7, ez7, h⟩ := opt_e h
        refine gw_callV (As := []) (rest := []) (st' := [J z7.1]) 14 0 hC (met_look ez7 l) (lw_V q2105 q2107 qs59 q161 q2108) (by decide +kernel) (by decide) (m_recv hC) rfl rfl (Nat.le_of_ble_eq_true rfl) dX8_qTest_14 rfl ?_
        obtain ⟨x2_8, ex2_8, h⟩ := bnd_e h
        refine gw_istore_n 17 [(2, J x2_8), (0, .ref o), (1, J x1_2)] hC dX8_qTest_17 (by decide) ex2_8 rfl ?_
        refine gw_iload_n 18 0 hC dX8_qTest_18 rfl ?_
        refine gw_bipush 19 hC dX8_qTest_19 (by decide) ?_
        refine gw_icmp_ne 21 47 hC dX8_qTest_21 (by decide) (fun c9 => ?_) (fun c9 => ?_)
        · replace h := if_f h c9
          refine gw_aload_n 47 1 hC dX8_qTest_47 rfl ?_
          refine gw_aload_n 48 1 hC dX8_qTest_48 rfl ?_
          refine mg_79 49 hC dX8_qTest_49 ?_
          obtain ⟨z10, ez10, h⟩ := opt_e h
          refine gw_callV (As := [.ref (o + mO 79)]) (rest := []) (st' := [J z10.1]) 52 1 hC (met_isHere ez10 l) (lw_V q2101 q2103 qs58 q161 q2104) (by decide +kernel) (by decide) (m_recv hC) rfl rfl (Nat.le_of_ble_eq_true rfl) dX8_qTest_52 rfl ?_
          refine gw_if_eq 55 79 hC dX8_qTest_55 (by decide) (fun c11 => ?_) (fun c11 => ?_)
          · replace h := if_t h c11
            refine gw_aload_n 79 1 hC dX8_qTest_79 rfl ?_
            obtain ⟨z12, ez12, h⟩ := opt_e h
            refine gw_callV (As := []) (rest := []) (st' := []) 80 0 hC (met_qFact ez12 l) (lw_V q2176 q2178 qs74 q161 q2179) (by decide +kernel) (by decide) (m_recv hC) rfl rfl (Nat.le_of_ble_eq_true rfl) dX8_qTest_80 rfl ?_
            refine gw_aload_n 83 1 hC dX8_qTest_83 rfl ?_
            obtain ⟨z13, ez13, h⟩ := opt_e h
            refine gw_callV (As := []) (rest := []) (st' := []) 84 0 hC (met_qDropsNots ez13 l) (lw_V q2235 q2237 qs88 q161 q2238) (by decide +kernel) (by decide) (m_recv hC) rfl rfl (Nat.le_of_ble_eq_true rfl) dX8_qTest_84 rfl ?_
            refine gw_aload_n 87 1 hC dX8_qTest_87 rfl ?_
            refine mg_5 88 hC dX8_qTest_88 ?_
            obtain ⟨j16, ej16, h⟩ := bnd_e h
            have hj16 : ∀ (w14 : Int) (s15 : MS), j16 w14 s15 = some res → GW p l e (rmd 9) s m args below meth c 3 (mAd o) (MRp D o) (MK D) 0 res s15 106 [(0, .ref o)] [J w14] := by
              clear h
              intro w14 s15 h
              subst ej16
              refine gw_istore_n 106 [(1, J w14), (0, .ref o)] hC dX8_qTest_106 (by decide) rfl rfl ?_
              refine gw_goto 107 2 hC dX8_qTest_107 (by decide) ?_
              refine gw_sub [1, 0] rfl ?_
              exact ih _ _ h
            obtain ⟨j18, ej18, h⟩ := bnd_e h
            have hj18 : ∀ (s17 : MS), j18 s17 = some res → GW p l e (rmd 9) s m args below meth c 3 (mAd o) (MRp D o) (MK D) 0 res s17 105 [(0, .ref o)] [] := by
              clear h
              intro s17 h
              subst ej18
              refine gw_iconst 105 hC dX8_qTest_105 ?_
              refine gw_sub [0] rfl ?_
              exact hj16 _ _ h
            refine gw_if_ne 91 105 hC dX8_qTest_91 (by decide) (fun c19 => ?_) (fun c19 => ?_)
            · replace h := if_f h c19
              refine gw_sub [1] rfl ?_
              exact hj18 _ h
            · replace h := if_t h c19
              refine gw_aload_n 94 1 hC dX8_qTest_94 rfl ?_
              obtain ⟨z20, ez20, h⟩ := opt_e h
              refine gw_callV (As := []) (rest := []) (st' := [J z20.1]) 95 0 hC (met_qGoesOnTest ez20 l) (lw_V q2239 q2241 qs89 q161 q2242) (by decide +kernel) (by decide) (m_recv hC) rfl rfl (Nat.le_of_ble_eq_true rfl) dX8_qTest_95 rfl ?_
              refine gw_if_eq 98 105 hC dX8_qTest_98 (by decide) (fun c21 => ?_) (fun c21 => ?_)
              · replace h := if_t h c21
                refine gw_sub [1] rfl ?_
                exact hj18 _ h
              · replace h := if_f h c21
                refine gw_iconst 101 hC dX8_qTest_101 ?_
                refine gw_goto 102 106 hC dX8_qTest_102 (by decide) ?_
                refine gw_sub [1] rfl ?_
                exact hj16 _ _ h
          · replace h := if_f h c11
            refine gw_aload_n 58 1 hC dX8_qTest_58 rfl ?_
            refine gw_bipush 59 hC dX8_qTest_59 (by decide) ?_
            refine gw_aload_n 61 1 hC dX8_qTest_61 rfl ?_
            refine mg_2 62 hC dX8_qTest_62 ?_
            obtain ⟨z22, ez22, h⟩ := opt_e h
            refine gw_callV (As := [J 12, J (z10.2 2 0)]) (rest := []) (st' := []) 65 2 hC (met_qOpens ez22 l) (lw_V q2172 q2174 qs73 q161 q2175) (by decide +kernel) (by decide) (m_recv hC) rfl rfl (Nat.le_of_ble_eq_true rfl) dX8_qTest_65 rfl ?_
            refine gw_aload_n 68 1 hC dX8_qTest_68 rfl ?_
            refine gw_aload_n 69 1 hC dX8_qTest_69 rfl ?_
            refine mg_79 70 hC dX8_qTest_70 ?_
            obtain ⟨z23, ez23, h⟩ := opt_e h
            refine gw_callV (As := [.ref (o + mO 79)]) (rest := []) (st' := []) 73 1 hC (met_asks ez23 l) (lw_V q2093 q2095 qs56 q161 q2096) (by decide +kernel) (by decide) (m_recv hC) rfl rfl (Nat.le_of_ble_eq_true rfl) dX8_qTest_73 rfl ?_
            refine gw_goto 76 2 hC dX8_qTest_76 (by decide) ?_
            refine gw_sub [1, 2] rfl ?_
            exact ih _ _ h
        · replace h := if_t h c9
          refine gw_aload_n 24 1 hC dX8_qTest_24 rfl ?_
          refine gw_bipush 25 hC dX8_qTest_25 (by decide) ?_
          refine gw_aload_n 27 1 hC dX8_qTest_27 rfl ?_
          refine mg_2 28 hC dX8_qTest_28 ?_
          obtain ⟨z24, ez24, h⟩ := opt_e h
          refine gw_callV (As := [J 25, J (z7.2 2 0)]) (rest := []) (st' := []) 31 2 hC (met_qOpens ez24 l) (lw_V q2172 q2174 qs73 q161 q2175) (by decide +kernel) (by decide) (m_recv hC) rfl rfl (Nat.le_of_ble_eq_true rfl) dX8_qTest_31 rfl ?_
          refine gw_aload_n 34 1 hC dX8_qTest_34 rfl ?_
          refine gw_dup 35 hC dX8_qTest_35 rfl ?_
          refine mg_2 36 hC dX8_qTest_36 ?_
          refine gw_iconst 39 hC dX8_qTest_39 ?_
          refine gw_iadd 40 hC dX8_qTest_40 ?_
          obtain ⟨s25, es25, h⟩ := bnd_e h
          refine mp_2 41 hC (MIn_self o) es25 dX8_qTest_41 ?_
          refine gw_goto 44 2 hC dX8_qTest_44 (by decide) ?_
          refine gw_sub [1, 2] rfl ?_
          exact ih _ _ h
theorem wm_qTest_L110 {p : Program} {l : Launch} {e : Env} {s : State} {m : MethodId} {args : Array Value} {below : List Frame} {meth : Method} {c : Code} {D : MD} {o : Nat} {res : Int × MS} {k131 : MS → Option (Int × MS)} (hC : GC p s m args meth c cX8_qTest RX8 3 none (MK D)) (hk131 : ∀ (s28 : MS), k131 s28 = some res → GW p l e (rmd 9) s m args below meth c 3 (mAd o) (MRp D o) (MK D) 0 res s28 131 [] []) : ∀ (n : Nat) (s27 : MS), m_qTest_L110 k131 n s27 = some res → GW p l e (rmd 9) s m args below meth c 3 (mAd o) (MRp D o) (MK D) 0 res s27 110 [(0, .ref o)] [] := by
  intro n
  induction n with
  | zero =>
    intro s27 h
    cases h
  | succ n ih =>
    intro s27 h
    rw [m_qTest_L110] at h
    refine gw_aload_n 110 0 hC dX8_qTest_110 rfl ?_
    refine mg_5 111 hC dX8_qTest_111 ?_
    refine gw_if_ne 114 131 hC dX8_qTest_114 (by decide) (fun c29 => ?_) (fun c29 => ?_)
    · replace h := if_f h c29
      refine gw_sub [] rfl ?_
      exact hk131 _ h
    · replace h := if_t h c29
      refine gw_aload_n 117 0 hC dX8_qTest_117 rfl ?_
      refine mg_99 118 hC dX8_qTest_118 ?_
      refine gw_if_le 121 131 hC dX8_qTest_121 (by decide) (fun c30 => ?_) (fun c30 => ?_)
      · replace h := if_t h c30
        refine gw_sub [] rfl ?_
        exact hk131 _ h
      · replace h := if_f h c30
        refine gw_aload_n 124 0 hC dX8_qTest_124 rfl ?_
        obtain ⟨z31, ez31, h⟩ := opt_e h
        refine gw_callV (As := []) (rest := []) (st' := []) 125 0 hC (met_qDrops ez31 l) (lw_V q2212 q2214 qs83 q161 q2215) (by decide +kernel) (by decide) (m_recv hC) rfl rfl (Nat.le_of_ble_eq_true rfl) dX8_qTest_125 rfl ?_
        refine gw_goto 128 110 hC dX8_qTest_128 (by decide) ?_
        refine gw_sub [0] rfl ?_
        exact ih _ h
theorem met_qTest {D : MD} {o : Nat} {s0 : MS} {res : Int × MS} (h : m_qTest s0 = some res) (l : Launch) : GMet l yX8_qTest cX8_qTest 3 none 9 (MRp D o) (MK D) (mAd o) [.ref o] s0 0 res := by
  refine GMet.of [(0, .ref o)] (by decide) (MK_moved D) (Nat.le_of_ble_eq_true rfl) rfl ?_
  intro p e s m args below meth c hC
  have hC : GC p s m args meth c cX8_qTest RX8 3 none (MK D) := hC
  unfold m_qTest at h
  refine gw_iconst 0 hC dX8_qTest_0 ?_
  obtain ⟨x1_1, ex1_1, h⟩ := bnd_e h
  refine gw_istore_n 1 [(1, J x1_1), (0, .ref o)] hC dX8_qTest_1 (by decide) ex1_1 rfl ?_
  refine gw_sub [1, 0] rfl ?_
  refine wm_qTest_L2 hC (fun s26 h => ?_) FU _ _ h
  · refine gw_sub [0] rfl ?_
    refine wm_qTest_L110 hC (fun s32 h => ?_) FU _ h
    · exact gw_vret 131 hC dX8_qTest_131 h
/-! codesTold(II)V -/
noncomputable def m_codesTold_L91 (k130 : Int → MS → Option (Int × MS)) : Nat → Int → Int → MS → Option (Int × MS)
  | 0, _, _, _ => none
  | n + 1, x1_17, x3_18, s19 =>
    if i32 (s19 97 0) ≤ i32 x3_18 then
      k130 x1_17 s19
    else
      gd (ok 1700 x3_18) <|
      gd (ok 3200 (s19 44 0)) <|
      bnd (up s19 43 (i32 (s19 44 0)) (s19 96 (i32 x3_18))) fun s25 =>
      bnd (up s25 44 0 ((s25 44 0) + 1)) fun s26 =>
      bnd (x3_18 + 1) fun x3_27 =>
      m_codesTold_L91 k130 n x1_17 x3_27 s26
noncomputable def m_codesTold (a1 : Int) (a2 : Int) (s0 : MS) : Option (Int × MS) :=
  bnd (fun (x1_3 : Int) (s4 : MS) =>
      if i32 (s4 5 0) = 0 then
        bnd (up s4 47 0 0) fun s6 =>
        bnd (up s6 97 0 0) fun s7 =>
        bnd (up s7 99 0 0) fun s8 =>
        bnd (up s8 100 0 0) fun s9 =>
        bnd (up s9 101 0 0) fun s10 =>
        bnd (fun (x1_11 : Int) (s12 : MS) =>
            if i32 (s12 5 0) = 0 then
              gd (ok 6 x1_11) <|
              bnd (up s12 41 (i32 x1_11) (s12 44 0)) fun s15 =>
              bnd 0 fun x3_16 =>
              m_codesTold_L91
                (fun (x1_28 : Int) (s29 : MS) =>
                  gd (ok 6 x1_28) <|
                  bnd (up s29 42 (i32 x1_28) (s29 44 0)) fun s31 =>
                  some (0, s31))
                FU x1_11 x3_16 s15
            else
              some (0, s12)) fun j32 =>
        if i32 x1_3 = 0 then
          Option.bind (m_qTest s10) fun z35 =>
          j32 x1_3 z35.2
        else
          Option.bind (m_qSums s10) fun z34 =>
          j32 x1_3 z34.2
      else
        some (0, s4)) fun j36 =>
  if i32 (s0 5 0) = 0 then
    gd (ok 6 a1) <|
    if i32 (s0 41 (i32 a1)) = i32 (-1) then
      j36 a1 s0
    else
      Option.bind (m_fail 5 a2 s0) fun z40 =>
      j36 a1 z40.2
  else
    j36 a1 s0
theorem wm_codesTold_L91 {p : Program} {l : Launch} {e : Env} {s : State} {m : MethodId} {args : Array Value} {below : List Frame} {meth : Method} {c : Code} {D : MD} {o : Nat} {res : Int × MS} {k130 : Int → MS → Option (Int × MS)} (hC : GC p s m args meth c cX8_codesTold RX8 4 none (MK D)) (hk130 : ∀ (x1_20 : Int) (s21 : MS), k130 x1_20 s21 = some res → GW p l e (rmd 10) s m args below meth c 4 (mAd o) (MRp D o) (MK D) 0 res s21 130 [(0, .ref o), (1, J x1_20)] []) : ∀ (n : Nat) (x1_17 : Int) (x3_18 : Int) (s19 : MS), m_codesTold_L91 k130 n x1_17 x3_18 s19 = some res → GW p l e (rmd 10) s m args below meth c 4 (mAd o) (MRp D o) (MK D) 0 res s19 91 [(0, .ref o), (1, J x1_17), (3, J x3_18)] [] := by
  intro n
  induction n with
  | zero =>
    intro x1_17 x3_18 s19 h
    cases h
  | succ n ih =>
    intro x1_17 x3_18 s19 h
    rw [m_codesTold_L91] at h
    refine gw_iload_n 91 2 hC dX8_codesTold_91 rfl ?_
    refine gw_aload_n 92 0 hC dX8_codesTold_92 rfl ?_
    refine mg_97 93 hC dX8_codesTold_93 ?_
    refine gw_icmp_ge 96 130 hC dX8_codesTold_96 (by decide) (fun c22 => ?_) (fun c22 => ?_)
    · replace h := if_t h c22
      refine gw_sub [0, 1] rfl ?_
      exact hk130 _ _ h
    · replace h := if_f h c22
      refine gw_aload_n 99 0 hC dX8_codesTold_99 rfl ?_
      refine mg_43 100 hC dX8_codesTold_100 ?_
      refine gw_aload_n 103 0 hC dX8_codesTold_103 rfl ?_
      refine mg_44 104 hC dX8_codesTold_104 ?_
      refine gw_aload_n 107 0 hC dX8_codesTold_107 rfl ?_
      refine mg_96 108 hC dX8_codesTold_108 ?_
      refine gw_iload_n 111 2 hC dX8_codesTold_111 rfl ?_
      obtain ⟨g23, h⟩ := gd_e h
      refine m_iald 112 96 hC (by decide) rfl g23 dX8_codesTold_112 ?_
      obtain ⟨g24, h⟩ := gd_e h
      obtain ⟨s25, es25, h⟩ := bnd_e h
      refine m_iast 113 43 hC (MIn_self o) (by decide) rfl g24 es25 dX8_codesTold_113 ?_
      refine gw_aload_n 114 0 hC dX8_codesTold_114 rfl ?_
      refine gw_dup 115 hC dX8_codesTold_115 rfl ?_
      refine mg_44 116 hC dX8_codesTold_116 ?_
      refine gw_iconst 119 hC dX8_codesTold_119 ?_
      refine gw_iadd 120 hC dX8_codesTold_120 ?_
      obtain ⟨s26, es26, h⟩ := bnd_e h
      refine mp_44 121 hC (MIn_self o) es26 dX8_codesTold_121 ?_
      obtain ⟨x3_27, ex3_27, h⟩ := bnd_e h
      refine gw_iinc 124 2 [(3, J x3_27), (0, .ref o), (1, J x1_17)] hC dX8_codesTold_124 rfl ex3_27 (by decide) rfl ?_
      refine gw_goto 127 91 hC dX8_codesTold_127 (by decide) ?_
      refine gw_sub [1, 2, 0] rfl ?_
      exact ih _ _ _ h
theorem met_codesTold {D : MD} {o : Nat} {a1 : Int} {a2 : Int} {s0 : MS} {res : Int × MS} (h : m_codesTold a1 a2 s0 = some res) (l : Launch) : GMet l yX8_codesTold cX8_codesTold 4 none 10 (MRp D o) (MK D) (mAd o) [.ref o, J a1, J a2] s0 0 res := by
  refine GMet.of [(0, .ref o), (1, J a1), (2, J a2)] (by decide) (MK_moved D) (Nat.le_of_ble_eq_true rfl) rfl ?_
  intro p e s m args below meth c hC
  have hC : GC p s m args meth c cX8_codesTold RX8 4 none (MK D) := hC
  unfold m_codesTold at h
  refine gw_aload_n 0 0 hC dX8_codesTold_0 rfl ?_
  refine mg_5 1 hC dX8_codesTold_1 ?_
  obtain ⟨j36, ej36, h⟩ := bnd_e h
  have hj36 : ∀ (x1_3 : Int) (s4 : MS), j36 x1_3 s4 = some res → GW p l e (rmd 10) s m args below meth c 4 (mAd o) (MRp D o) (MK D) 0 res s4 23 [(0, .ref o), (1, J x1_3)] [] := by
    clear h
    intro x1_3 s4 h
    subst ej36
    refine gw_aload_n 23 0 hC dX8_codesTold_23 rfl ?_
    refine mg_5 24 hC dX8_codesTold_24 ?_
    refine gw_if_eq 27 31 hC dX8_codesTold_27 (by decide) (fun c5 => ?_) (fun c5 => ?_)
    · replace h := if_t h c5
      refine gw_aload_n 31 0 hC dX8_codesTold_31 rfl ?_
      refine gw_iconst 32 hC dX8_codesTold_32 ?_
      obtain ⟨s6, es6, h⟩ := bnd_e h
      refine mp_47 33 hC (MIn_self o) es6 dX8_codesTold_33 ?_
      refine gw_aload_n 36 0 hC dX8_codesTold_36 rfl ?_
      refine gw_iconst 37 hC dX8_codesTold_37 ?_
      obtain ⟨s7, es7, h⟩ := bnd_e h
      refine mp_97 38 hC (MIn_self o) es7 dX8_codesTold_38 ?_
      refine gw_aload_n 41 0 hC dX8_codesTold_41 rfl ?_
      refine gw_iconst 42 hC dX8_codesTold_42 ?_
      obtain ⟨s8, es8, h⟩ := bnd_e h
      refine mp_99 43 hC (MIn_self o) es8 dX8_codesTold_43 ?_
      refine gw_aload_n 46 0 hC dX8_codesTold_46 rfl ?_
      refine gw_iconst 47 hC dX8_codesTold_47 ?_
      obtain ⟨s9, es9, h⟩ := bnd_e h
      refine mp_100 48 hC (MIn_self o) es9 dX8_codesTold_48 ?_
      refine gw_aload_n 51 0 hC dX8_codesTold_51 rfl ?_
      refine gw_iconst 52 hC dX8_codesTold_52 ?_
      obtain ⟨s10, es10, h⟩ := bnd_e h
      refine mp_101 53 hC (MIn_self o) es10 dX8_codesTold_53 ?_
      refine gw_iload_n 56 1 hC dX8_codesTold_56 rfl ?_
      obtain ⟨j32, ej32, h⟩ := bnd_e h
      have hj32 : ∀ (x1_11 : Int) (s12 : MS), j32 x1_11 s12 = some res → GW p l e (rmd 10) s m args below meth c 4 (mAd o) (MRp D o) (MK D) 0 res s12 71 [(0, .ref o), (1, J x1_11)] [] := by
        clear h
        intro x1_11 s12 h
        subst ej32
        refine gw_aload_n 71 0 hC dX8_codesTold_71 rfl ?_
        refine mg_5 72 hC dX8_codesTold_72 ?_
        refine gw_if_eq 75 79 hC dX8_codesTold_75 (by decide) (fun c13 => ?_) (fun c13 => ?_)
        · replace h := if_t h c13
          refine gw_aload_n 79 0 hC dX8_codesTold_79 rfl ?_
          refine mg_41 80 hC dX8_codesTold_80 ?_
          refine gw_iload_n 83 1 hC dX8_codesTold_83 rfl ?_
          refine gw_aload_n 84 0 hC dX8_codesTold_84 rfl ?_
          refine mg_44 85 hC dX8_codesTold_85 ?_
          obtain ⟨g14, h⟩ := gd_e h
          obtain ⟨s15, es15, h⟩ := bnd_e h
          refine m_iast 88 41 hC (MIn_self o) (by decide) rfl g14 es15 dX8_codesTold_88 ?_
          refine gw_iconst 89 hC dX8_codesTold_89 ?_
          obtain ⟨x3_16, ex3_16, h⟩ := bnd_e h
          refine gw_istore_n 90 [(3, J x3_16), (0, .ref o), (1, J x1_11)] hC dX8_codesTold_90 (by decide) ex3_16 rfl ?_
          refine gw_sub [1, 2, 0] rfl ?_
          refine wm_codesTold_L91 hC (fun x1_28 s29 h => ?_) FU _ _ _ h
          · refine gw_aload_n 130 0 hC dX8_codesTold_130 rfl ?_
            refine mg_42 131 hC dX8_codesTold_131 ?_
            refine gw_iload_n 134 1 hC dX8_codesTold_134 rfl ?_
            refine gw_aload_n 135 0 hC dX8_codesTold_135 rfl ?_
            refine mg_44 136 hC dX8_codesTold_136 ?_
            obtain ⟨g30, h⟩ := gd_e h
            obtain ⟨s31, es31, h⟩ := bnd_e h
            refine m_iast 139 42 hC (MIn_self o) (by decide) rfl g30 es31 dX8_codesTold_139 ?_
            exact gw_vret 140 hC dX8_codesTold_140 h
        · replace h := if_f h c13
          exact gw_vret 78 hC dX8_codesTold_78 h
      refine gw_if_ne 57 67 hC dX8_codesTold_57 (by decide) (fun c33 => ?_) (fun c33 => ?_)
      · replace h := if_f h c33
        refine gw_aload_n 67 0 hC dX8_codesTold_67 rfl ?_
        obtain ⟨z34, ez34, h⟩ := opt_e h
        refine gw_callV (As := []) (rest := []) (st' := []) 68 0 hC (met_qSums ez34 l) (lw_V q2184 q2186 qs76 q161 q2187) (by decide +kernel) (by decide) (m_recv hC) rfl rfl (Nat.le_of_ble_eq_true rfl) dX8_codesTold_68 rfl ?_
        refine gw_sub [0, 1] rfl ?_
        exact hj32 _ _ h
      · replace h := if_t h c33
        refine gw_aload_n 60 0 hC dX8_codesTold_60 rfl ?_
        obtain ⟨z35, ez35, h⟩ := opt_e h
        refine gw_callV (As := []) (rest := []) (st' := []) 61 0 hC (met_qTest ez35 l) (lw_V q2168 q2170 qs72 q161 q2171) (by decide +kernel) (by decide) (m_recv hC) rfl rfl (Nat.le_of_ble_eq_true rfl) dX8_codesTold_61 rfl ?_
        refine gw_goto 64 71 hC dX8_codesTold_64 (by decide) ?_
        refine gw_sub [0, 1] rfl ?_
        exact hj32 _ _ h
    · replace h := if_f h c5
      exact gw_vret 30 hC dX8_codesTold_30 h
  refine gw_if_ne 4 23 hC dX8_codesTold_4 (by decide) (fun c37 => ?_) (fun c37 => ?_)
  · replace h := if_f h c37
    refine gw_sub [0, 1] rfl ?_
    exact hj36 _ _ h
  · replace h := if_t h c37
    refine gw_aload_n 7 0 hC dX8_codesTold_7 rfl ?_
    refine mg_41 8 hC dX8_codesTold_8 ?_
    refine gw_iload_n 11 1 hC dX8_codesTold_11 rfl ?_
    obtain ⟨g38, h⟩ := gd_e h
    refine m_iald 12 41 hC (by decide) rfl g38 dX8_codesTold_12 ?_
    refine gw_iconst 13 hC dX8_codesTold_13 ?_
    refine gw_icmp_eq 14 23 hC dX8_codesTold_14 (by decide) (fun c39 => ?_) (fun c39 => ?_)
    · replace h := if_t h c39
      refine gw_sub [0, 1] rfl ?_
      exact hj36 _ _ h
    · replace h := if_f h c39
      refine gw_aload_n 17 0 hC dX8_codesTold_17 rfl ?_
      refine gw_iconst 18 hC dX8_codesTold_18 ?_
      refine gw_iload_n 19 2 hC dX8_codesTold_19 rfl ?_
      obtain ⟨z40, ez40, h⟩ := opt_e h
      refine gw_callV (As := [J 5, J a2]) (rest := []) (st' := []) 20 2 hC (met_fail ez40 l) (lw_V q2112 q2114 qs60 q161 q2115) (by decide +kernel) (by decide) (m_recv hC) rfl rfl (Nat.le_of_ble_eq_true rfl) dX8_codesTold_20 rfl ?_
      refine gw_sub [0, 1] rfl ?_
      exact hj36 _ _ h
/-! statementTold()V -/
noncomputable def m_statementTold (s0 : MS) : Option (Int × MS) :=
  bnd (s0 2 0) fun x1_1 =>
  if i32 (s0 45 0) = i32 80 then
    Option.bind (m_fail 5 x1_1 s0) fun z29 =>
    some (0, z29.2)
  else
    Option.bind (m_takes 11 s0) fun z3 =>
    bnd (fun (s4 : MS) =>
        Option.bind (m_asksSign 59 s4) fun z5 =>
        bnd (up z5.2 45 0 ((z5.2 45 0) + 1)) fun s6 =>
        some (0, s6)) fun j7 =>
    if i32 z3.1 = 0 then
      Option.bind (m_takes 14 z3.2) fun z9 =>
      if i32 z9.1 = 0 then
        Option.bind (m_takes 17 z9.2) fun z11 =>
        if i32 z11.1 = 0 then
          Option.bind (m_takes 18 z11.2) fun z13 =>
          if i32 z13.1 = 0 then
            Option.bind (m_takes 19 z13.2) fun z15 =>
            if i32 z15.1 = 0 then
              Option.bind (m_takes 20 z15.2) fun z17 =>
              if i32 z17.1 = 0 then
                Option.bind (m_asks 21 z17.2) fun z19 =>
                Option.bind (m_number 0 100 z19.2) fun z20 =>
                gd (ok 4 1) <|
                bnd (up z20.2 35 (i32 1) z20.1) fun s22 =>
                j7 s22
              else
                Option.bind (m_codesTold 2 x1_1 z17.2) fun z23 =>
                j7 z23.2
            else
              Option.bind (m_codesTold 1 x1_1 z15.2) fun z24 =>
              j7 z24.2
          else
            Option.bind (m_codesTold 0 x1_1 z13.2) fun z25 =>
            j7 z25.2
        else
          Option.bind (m_lentTold0 z11.2) fun z26 =>
          j7 z26.2
      else
        Option.bind (m_verbTold x1_1 z9.2) fun z27 =>
        j7 z27.2
    else
      Option.bind (m_sayingTold x1_1 z3.2) fun z28 =>
      j7 z28.2
theorem met_statementTold {D : MD} {o : Nat} {s0 : MS} {res : Int × MS} (h : m_statementTold s0 = some res) (l : Launch) : GMet l yX8_statementTold cX8_statementTold 2 none 11 (MRp D o) (MK D) (mAd o) [.ref o] s0 0 res := by
  refine GMet.of [(0, .ref o)] (by decide) (MK_moved D) (Nat.le_of_ble_eq_true rfl) rfl ?_
  intro p e s m args below meth c hC
  have hC : GC p s m args meth c cX8_statementTold RX8 2 none (MK D) := hC
  unfold m_statementTold at h
  refine gw_aload_n 0 0 hC dX8_statementTold_0 rfl ?_
  refine mg_2 1 hC dX8_statementTold_1 ?_
  obtain ⟨x1_1, ex1_1, h⟩ := bnd_e h
  refine gw_istore_n 4 [(1, J x1_1), (0, .ref o)] hC dX8_statementTold_4 (by decide) ex1_1 rfl ?_
  refine gw_aload_n 5 1 hC dX8_statementTold_5 rfl ?_
  refine mg_45 6 hC dX8_statementTold_6 ?_
  refine gw_bipush 9 hC dX8_statementTold_9 (by decide) ?_
  refine gw_icmp_ne 11 21 hC dX8_statementTold_11 (by decide) (fun c2 => ?_) (fun c2 => ?_)
  · replace h := if_f h c2
    refine gw_aload_n 21 1 hC dX8_statementTold_21 rfl ?_
    refine gw_aload_n 22 1 hC dX8_statementTold_22 rfl ?_
    refine mg_11 23 hC dX8_statementTold_23 ?_
    obtain ⟨z3, ez3, h⟩ := opt_e h
    refine gw_callV (As := [.ref (o + mO 11)]) (rest := []) (st' := [J z3.1]) 26 1 hC (met_takes ez3 l) (lw_V q2097 q2099 qs57 q161 q2100) (by decide +kernel) (by decide) (m_recv hC) rfl rfl (Nat.le_of_ble_eq_true rfl) dX8_statementTold_26 rfl ?_
    obtain ⟨j7, ej7, h⟩ := bnd_e h
    have hj7 : ∀ (s4 : MS), j7 s4 = some res → GW p l e (rmd 11) s m args below meth c 2 (mAd o) (MRp D o) (MK D) 0 res s4 158 [(0, .ref o)] [] := by
      clear h
      intro s4 h
      subst ej7
      refine gw_aload_n 158 0 hC dX8_statementTold_158 rfl ?_
      refine gw_bipush 159 hC dX8_statementTold_159 (by decide) ?_
      obtain ⟨z5, ez5, h⟩ := opt_e h
      refine gw_callV (As := [J 59]) (rest := []) (st' := []) 161 1 hC (met_asksSign ez5 l) (lw_V q2126 q2128 qs62 q161 q2129) (by decide +kernel) (by decide) (m_recv hC) rfl rfl (Nat.le_of_ble_eq_true rfl) dX8_statementTold_161 rfl ?_
      refine gw_aload_n 164 0 hC dX8_statementTold_164 rfl ?_
      refine gw_dup 165 hC dX8_statementTold_165 rfl ?_
      refine mg_45 166 hC dX8_statementTold_166 ?_
      refine gw_iconst 169 hC dX8_statementTold_169 ?_
      refine gw_iadd 170 hC dX8_statementTold_170 ?_
      obtain ⟨s6, es6, h⟩ := bnd_e h
      refine mp_45 171 hC (MIn_self o) es6 dX8_statementTold_171 ?_
      exact gw_vret 174 hC dX8_statementTold_174 h
    refine gw_if_eq 29 40 hC dX8_statementTold_29 (by decide) (fun c8 => ?_) (fun c8 => ?_)
    · replace h := if_t h c8
      refine gw_aload_n 40 1 hC dX8_statementTold_40 rfl ?_
      refine gw_aload_n 41 1 hC dX8_statementTold_41 rfl ?_
      refine mg_14 42 hC dX8_statementTold_42 ?_
      obtain ⟨z9, ez9, h⟩ := opt_e h
      refine gw_callV (As := [.ref (o + mO 14)]) (rest := []) (st' := [J z9.1]) 45 1 hC (met_takes ez9 l) (lw_V q2097 q2099 qs57 q161 q2100) (by decide +kernel) (by decide) (m_recv hC) rfl rfl (Nat.le_of_ble_eq_true rfl) dX8_statementTold_45 rfl ?_
      refine gw_if_eq 48 59 hC dX8_statementTold_48 (by decide) (fun c10 => ?_) (fun c10 => ?_)
      · replace h := if_t h c10
        refine gw_aload_n 59 1 hC dX8_statementTold_59 rfl ?_
        refine gw_aload_n 60 1 hC dX8_statementTold_60 rfl ?_
        refine mg_17 61 hC dX8_statementTold_61 ?_
        obtain ⟨z11, ez11, h⟩ := opt_e h
        refine gw_callV (As := [.ref (o + mO 17)]) (rest := []) (st' := [J z11.1]) 64 1 hC (met_takes ez11 l) (lw_V q2097 q2099 qs57 q161 q2100) (by decide +kernel) (by decide) (m_recv hC) rfl rfl (Nat.le_of_ble_eq_true rfl) dX8_statementTold_64 rfl ?_
        refine gw_if_eq 67 77 hC dX8_statementTold_67 (by decide) (fun c12 => ?_) (fun c12 => ?_)
        · replace h := if_t h c12
          refine gw_aload_n 77 1 hC dX8_statementTold_77 rfl ?_
          refine gw_aload_n 78 1 hC dX8_statementTold_78 rfl ?_
          refine mg_18 79 hC dX8_statementTold_79 ?_
          obtain ⟨z13, ez13, h⟩ := opt_e h
          refine gw_callV (As := [.ref (o + mO 18)]) (rest := []) (st' := [J z13.1]) 82 1 hC (met_takes ez13 l) (lw_V q2097 q2099 qs57 q161 q2100) (by decide +kernel) (by decide) (m_recv hC) rfl rfl (Nat.le_of_ble_eq_true rfl) dX8_statementTold_82 rfl ?_
          refine gw_if_eq 85 97 hC dX8_statementTold_85 (by decide) (fun c14 => ?_) (fun c14 => ?_)
          · replace h := if_t h c14
            refine gw_aload_n 97 1 hC dX8_statementTold_97 rfl ?_
            refine gw_aload_n 98 1 hC dX8_statementTold_98 rfl ?_
            refine mg_19 99 hC dX8_statementTold_99 ?_
            obtain ⟨z15, ez15, h⟩ := opt_e h
            refine gw_callV (As := [.ref (o + mO 19)]) (rest := []) (st' := [J z15.1]) 102 1 hC (met_takes ez15 l) (lw_V q2097 q2099 qs57 q161 q2100) (by decide +kernel) (by decide) (m_recv hC) rfl rfl (Nat.le_of_ble_eq_true rfl) dX8_statementTold_102 rfl ?_
            refine gw_if_eq 105 117 hC dX8_statementTold_105 (by decide) (fun c16 => ?_) (fun c16 => ?_)
            · replace h := if_t h c16
              refine gw_aload_n 117 1 hC dX8_statementTold_117 rfl ?_
              refine gw_aload_n 118 1 hC dX8_statementTold_118 rfl ?_
              refine mg_20 119 hC dX8_statementTold_119 ?_
              obtain ⟨z17, ez17, h⟩ := opt_e h
              refine gw_callV (As := [.ref (o + mO 20)]) (rest := []) (st' := [J z17.1]) 122 1 hC (met_takes ez17 l) (lw_V q2097 q2099 qs57 q161 q2100) (by decide +kernel) (by decide) (m_recv hC) rfl rfl (Nat.le_of_ble_eq_true rfl) dX8_statementTold_122 rfl ?_
              refine gw_if_eq 125 137 hC dX8_statementTold_125 (by decide) (fun c18 => ?_) (fun c18 => ?_)
              · replace h := if_t h c18
                refine gw_aload_n 137 1 hC dX8_statementTold_137 rfl ?_
                refine gw_aload_n 138 1 hC dX8_statementTold_138 rfl ?_
                refine mg_21 139 hC dX8_statementTold_139 ?_
                obtain ⟨z19, ez19, h⟩ := opt_e h
                refine gw_callV (As := [.ref (o + mO 21)]) (rest := []) (st' := []) 142 1 hC (met_asks ez19 l) (lw_V q2093 q2095 qs56 q161 q2096) (by decide +kernel) (by decide) (m_recv hC) rfl rfl (Nat.le_of_ble_eq_true rfl) dX8_statementTold_142 rfl ?_
                refine gw_aload_n 145 1 hC dX8_statementTold_145 rfl ?_
                refine mg_35 146 hC dX8_statementTold_146 ?_
                refine gw_iconst 149 hC dX8_statementTold_149 ?_
                refine gw_aload_n 150 1 hC dX8_statementTold_150 rfl ?_
                refine gw_iconst 151 hC dX8_statementTold_151 ?_
                refine gw_bipush 152 hC dX8_statementTold_152 (by decide) ?_
                obtain ⟨z20, ez20, h⟩ := opt_e h
                refine gw_callV (As := [J 0, J 100]) (rest := [J 1, .ref (o + mO 35)]) (st' := [J z20.1, J 1, .ref (o + mO 35)]) 154 2 hC (met_number ez20 l) (lw_V q2116 q2118 qs61 q161 q2119) (by decide +kernel) (by decide) (m_recv hC) rfl rfl (Nat.le_of_ble_eq_true rfl) dX8_statementTold_154 rfl ?_
                obtain ⟨g21, h⟩ := gd_e h
                obtain ⟨s22, es22, h⟩ := bnd_e h
                refine m_iast 157 35 hC (MIn_self o) (by decide) rfl g21 es22 dX8_statementTold_157 ?_
                refine gw_sub [1] rfl ?_
                exact hj7 _ h
              · replace h := if_f h c18
                refine gw_aload_n 128 1 hC dX8_statementTold_128 rfl ?_
                refine gw_iconst 129 hC dX8_statementTold_129 ?_
                refine gw_iload_n 130 0 hC dX8_statementTold_130 rfl ?_
                obtain ⟨z23, ez23, h⟩ := opt_e h
                refine gw_callV (As := [J 2, J x1_1]) (rest := []) (st' := []) 131 2 hC (met_codesTold ez23 l) (lw_V q2164 q2166 qs71 q161 q2167) (by decide +kernel) (by decide) (m_recv hC) rfl rfl (Nat.le_of_ble_eq_true rfl) dX8_statementTold_131 rfl ?_
                refine gw_goto 134 158 hC dX8_statementTold_134 (by decide) ?_
                refine gw_sub [1] rfl ?_
                exact hj7 _ h
            · replace h := if_f h c16
              refine gw_aload_n 108 1 hC dX8_statementTold_108 rfl ?_
              refine gw_iconst 109 hC dX8_statementTold_109 ?_
              refine gw_iload_n 110 0 hC dX8_statementTold_110 rfl ?_
              obtain ⟨z24, ez24, h⟩ := opt_e h
              refine gw_callV (As := [J 1, J x1_1]) (rest := []) (st' := []) 111 2 hC (met_codesTold ez24 l) (lw_V q2164 q2166 qs71 q161 q2167) (by decide +kernel) (by decide) (m_recv hC) rfl rfl (Nat.le_of_ble_eq_true rfl) dX8_statementTold_111 rfl ?_
              refine gw_goto 114 158 hC dX8_statementTold_114 (by decide) ?_
              refine gw_sub [1] rfl ?_
              exact hj7 _ h
          · replace h := if_f h c14
            refine gw_aload_n 88 1 hC dX8_statementTold_88 rfl ?_
            refine gw_iconst 89 hC dX8_statementTold_89 ?_
            refine gw_iload_n 90 0 hC dX8_statementTold_90 rfl ?_
            obtain ⟨z25, ez25, h⟩ := opt_e h
            refine gw_callV (As := [J 0, J x1_1]) (rest := []) (st' := []) 91 2 hC (met_codesTold ez25 l) (lw_V q2164 q2166 qs71 q161 q2167) (by decide +kernel) (by decide) (m_recv hC) rfl rfl (Nat.le_of_ble_eq_true rfl) dX8_statementTold_91 rfl ?_
            refine gw_goto 94 158 hC dX8_statementTold_94 (by decide) ?_
            refine gw_sub [1] rfl ?_
            exact hj7 _ h
        · replace h := if_f h c12
          refine gw_aload_n 70 1 hC dX8_statementTold_70 rfl ?_
          obtain ⟨z26, ez26, h⟩ := opt_e h
          refine gw_callV (As := []) (rest := []) (st' := []) 71 0 hC (met_lentTold0 ez26 l) (lw_V q2160 q2162 qs70 q161 q2163) (by decide +kernel) (by decide) (m_recv hC) rfl rfl (Nat.le_of_ble_eq_true rfl) dX8_statementTold_71 rfl ?_
          refine gw_goto 74 158 hC dX8_statementTold_74 (by decide) ?_
          refine gw_sub [1] rfl ?_
          exact hj7 _ h
      · replace h := if_f h c10
        refine gw_aload_n 51 1 hC dX8_statementTold_51 rfl ?_
        refine gw_iload_n 52 0 hC dX8_statementTold_52 rfl ?_
        obtain ⟨z27, ez27, h⟩ := opt_e h
        refine gw_callV (As := [J x1_1]) (rest := []) (st' := []) 53 1 hC (met_verbTold ez27 l) (lw_V q2156 q2158 qs69 q161 q2159) (by decide +kernel) (by decide) (m_recv hC) rfl rfl (Nat.le_of_ble_eq_true rfl) dX8_statementTold_53 rfl ?_
        refine gw_goto 56 158 hC dX8_statementTold_56 (by decide) ?_
        refine gw_sub [1] rfl ?_
        exact hj7 _ h
    · replace h := if_f h c8
      refine gw_aload_n 32 1 hC dX8_statementTold_32 rfl ?_
      refine gw_iload_n 33 0 hC dX8_statementTold_33 rfl ?_
      obtain ⟨z28, ez28, h⟩ := opt_e h
      refine gw_callV (As := [J x1_1]) (rest := []) (st' := []) 34 1 hC (met_sayingTold ez28 l) (lw_V q2138 q2140 qs65 q161 q2141) (by decide +kernel) (by decide) (m_recv hC) rfl rfl (Nat.le_of_ble_eq_true rfl) dX8_statementTold_34 rfl ?_
      refine gw_goto 37 158 hC dX8_statementTold_37 (by decide) ?_
      refine gw_sub [1] rfl ?_
      exact hj7 _ h
  · replace h := if_t h c2
    refine gw_aload_n 14 1 hC dX8_statementTold_14 rfl ?_
    refine gw_iconst 15 hC dX8_statementTold_15 ?_
    refine gw_iload_n 16 0 hC dX8_statementTold_16 rfl ?_
    obtain ⟨z29, ez29, h⟩ := opt_e h
    refine gw_callV (As := [J 5, J x1_1]) (rest := []) (st' := []) 17 2 hC (met_fail ez29 l) (lw_V q2112 q2114 qs60 q161 q2115) (by decide +kernel) (by decide) (m_recv hC) rfl rfl (Nat.le_of_ble_eq_true rfl) dX8_statementTold_17 rfl ?_
    exact gw_vret 20 hC dX8_statementTold_20 h
/-! stands()V -/
noncomputable def m_stands_L7 (k46 : MS → Option (Int × MS)) : Nat → Int → MS → Option (Int × MS)
  | 0, _, _ => none
  | n + 1, x1_3, s4 =>
    if i32 2 ≤ i32 x1_3 then
      k46 s4
    else
      gd (ok 4 x1_3) <|
      gd (ok 4 (2 + x1_3)) <|
      bnd (up s4 35 (i32 (2 + x1_3)) (s4 35 (i32 x1_3))) fun s9 =>
      gd (ok 4 x1_3) <|
      gd (ok 4 (2 + x1_3)) <|
      bnd (up s9 36 (i32 (2 + x1_3)) (s9 36 (i32 x1_3))) fun s12 =>
      bnd (x1_3 + 1) fun x1_13 =>
      m_stands_L7 k46 n x1_13 s12
noncomputable def m_stands_L48 (k75 : MS → Option (Int × MS)) : Nat → Int → MS → Option (Int × MS)
  | 0, _, _ => none
  | n + 1, x1_16, s17 =>
    if i32 16 ≤ i32 x1_16 then
      k75 s17
    else
      gd (ok 32 x1_16) <|
      gd (ok 32 (16 + x1_16)) <|
      bnd (up s17 37 (i32 (16 + x1_16)) (s17 37 (i32 x1_16))) fun s22 =>
      bnd (x1_16 + 1) fun x1_23 =>
      m_stands_L48 k75 n x1_23 s22
noncomputable def m_stands_L77 (k104 : MS → Option (Int × MS)) : Nat → Int → MS → Option (Int × MS)
  | 0, _, _ => none
  | n + 1, x1_26, s27 =>
    if i32 14 ≤ i32 x1_26 then
      k104 s27
    else
      gd (ok 28 x1_26) <|
      gd (ok 28 (14 + x1_26)) <|
      bnd (up s27 39 (i32 (14 + x1_26)) (s27 39 (i32 x1_26))) fun s32 =>
      bnd (x1_26 + 1) fun x1_33 =>
      m_stands_L77 k104 n x1_33 s32
noncomputable def m_stands_L106 (k145 : MS → Option (Int × MS)) : Nat → Int → MS → Option (Int × MS)
  | 0, _, _ => none
  | n + 1, x1_36, s37 =>
    if i32 3 ≤ i32 x1_36 then
      k145 s37
    else
      gd (ok 6 x1_36) <|
      gd (ok 6 (3 + x1_36)) <|
      bnd (up s37 41 (i32 (3 + x1_36)) (s37 41 (i32 x1_36))) fun s42 =>
      gd (ok 6 x1_36) <|
      gd (ok 6 (3 + x1_36)) <|
      bnd (up s42 42 (i32 (3 + x1_36)) (s42 42 (i32 x1_36))) fun s45 =>
      bnd (x1_36 + 1) fun x1_46 =>
      m_stands_L106 k145 n x1_46 s45
noncomputable def m_stands_L147 (k177 : MS → Option (Int × MS)) : Nat → Int → MS → Option (Int × MS)
  | 0, _, _ => none
  | n + 1, x1_49, s50 =>
    if i32 (s50 44 0) ≤ i32 x1_49 then
      k177 s50
    else
      gd (ok 3200 x1_49) <|
      gd (ok 3200 (1600 + x1_49)) <|
      bnd (up s50 43 (i32 (1600 + x1_49)) (s50 43 (i32 x1_49))) fun s55 =>
      bnd (x1_49 + 1) fun x1_56 =>
      m_stands_L147 k177 n x1_56 s55
noncomputable def m_stands_L179 (k199 : MS → Option (Int × MS)) : Nat → Int → MS → Option (Int × MS)
  | 0, _, _ => none
  | n + 1, x1_59, s60 =>
    if i32 219 ≤ i32 x1_59 then
      k199 s60
    else
      gd (ok 219 x1_59) <|
      bnd (up s60 48 (i32 x1_59) 0) fun s64 =>
      bnd (x1_59 + 1) fun x1_65 =>
      m_stands_L179 k199 n x1_65 s64
noncomputable def m_stands_L201 (k233 : MS → Option (Int × MS)) : Nat → Int → MS → Option (Int × MS)
  | 0, _, _ => none
  | n + 1, x1_68, s69 =>
    gd (ok 4 1) <|
    if i32 (s69 36 (i32 1)) ≤ i32 x1_68 then
      k233 s69
    else
      gd (ok 219 (1 + x1_68)) <|
      bnd (up s69 48 (i32 (1 + x1_68)) (iand (ishr (s69 40 0) x1_68) 1)) fun s74 =>
      bnd (x1_68 + 1) fun x1_75 =>
      m_stands_L201 k233 n x1_75 s74
noncomputable def m_stands_L247 (k282 : Int → MS → Option (Int × MS)) : Nat → Int → Int → MS → Option (Int × MS)
  | 0, _, _, _ => none
  | n + 1, x1_84, x2_85, s86 =>
    if i32 3 ≤ i32 x2_85 then
      k282 x1_84 s86
    else
      gd (ok 18 ((3 * x1_84) + x2_85)) <|
      gd (ok 219 ((8 + (10 * x1_84)) + x2_85)) <|
      bnd (up s86 48 (i32 ((8 + (10 * x1_84)) + x2_85)) (s86 38 (i32 ((3 * x1_84) + x2_85)))) fun s92 =>
      bnd (x2_85 + 1) fun x2_93 =>
      m_stands_L247 k282 n x1_84 x2_93 s92
noncomputable def m_stands_L235 (k288 : MS → Option (Int × MS)) : Nat → Int → MS → Option (Int × MS)
  | 0, _, _ => none
  | n + 1, x1_78, s79 =>
    gd (ok 4 0) <|
    if i32 (s79 36 (i32 0)) ≤ i32 x1_78 then
      k288 s79
    else
      bnd 0 fun x2_83 =>
      m_stands_L247
        (fun (x1_94 : Int) (s95 : MS) =>
          bnd (x1_94 + 1) fun x1_96 =>
          m_stands_L235 k288 n x1_96 s95)
        FU x1_78 x2_83 s79
noncomputable def m_stands (s0 : MS) : Option (Int × MS) :=
  bnd (up s0 46 0 1) fun s1 =>
  bnd 0 fun x1_2 =>
  m_stands_L7
    (fun (s14 : MS) =>
      bnd 0 fun x1_15 =>
      m_stands_L48
        (fun (s24 : MS) =>
          bnd 0 fun x1_25 =>
          m_stands_L77
            (fun (s34 : MS) =>
              bnd 0 fun x1_35 =>
              m_stands_L106
                (fun (s47 : MS) =>
                  bnd 0 fun x1_48 =>
                  m_stands_L147
                    (fun (s57 : MS) =>
                      bnd 0 fun x1_58 =>
                      m_stands_L179
                        (fun (s66 : MS) =>
                          bnd 0 fun x1_67 =>
                          m_stands_L201
                            (fun (s76 : MS) =>
                              bnd 0 fun x1_77 =>
                              m_stands_L235
                                (fun (s97 : MS) =>
                                  bnd (up s97 70 0 0) fun s98 =>
                                  bnd (up s98 64 0 0) fun s99 =>
                                  some (0, s99))
                                FU x1_77 s76)
                            FU x1_67 s66)
                        FU x1_58 s57)
                    FU x1_48 s47)
                FU x1_35 s34)
            FU x1_25 s24)
        FU x1_15 s14)
    FU x1_2 s1
theorem wm_stands_L7 {p : Program} {l : Launch} {e : Env} {s : State} {m : MethodId} {args : Array Value} {below : List Frame} {meth : Method} {c : Code} {D : MD} {o : Nat} {res : Int × MS} {k46 : MS → Option (Int × MS)} (hC : GC p s m args meth c cX8_stands RX8 3 none (MK D)) (hk46 : ∀ (s5 : MS), k46 s5 = some res → GW p l e (rmd 1) s m args below meth c 3 (mAd o) (MRp D o) (MK D) 0 res s5 46 [(0, .ref o)] []) : ∀ (n : Nat) (x1_3 : Int) (s4 : MS), m_stands_L7 k46 n x1_3 s4 = some res → GW p l e (rmd 1) s m args below meth c 3 (mAd o) (MRp D o) (MK D) 0 res s4 7 [(0, .ref o), (1, J x1_3)] [] := by
  intro n
  induction n with
  | zero =>
    intro x1_3 s4 h
    cases h
  | succ n ih =>
    intro x1_3 s4 h
    rw [m_stands_L7] at h
    refine gw_iload_n 7 1 hC dX8_stands_7 rfl ?_
    refine gw_iconst 8 hC dX8_stands_8 ?_
    refine gw_icmp_ge 9 46 hC dX8_stands_9 (by decide) (fun c6 => ?_) (fun c6 => ?_)
    · replace h := if_t h c6
      refine gw_sub [0] rfl ?_
      exact hk46 _ h
    · replace h := if_f h c6
      refine gw_aload_n 12 0 hC dX8_stands_12 rfl ?_
      refine mg_35 13 hC dX8_stands_13 ?_
      refine gw_iconst 16 hC dX8_stands_16 ?_
      refine gw_iload_n 17 1 hC dX8_stands_17 rfl ?_
      refine gw_iadd 18 hC dX8_stands_18 ?_
      refine gw_aload_n 19 0 hC dX8_stands_19 rfl ?_
      refine mg_35 20 hC dX8_stands_20 ?_
      refine gw_iload_n 23 1 hC dX8_stands_23 rfl ?_
      obtain ⟨g7, h⟩ := gd_e h
      refine m_iald 24 35 hC (by decide) rfl g7 dX8_stands_24 ?_
      obtain ⟨g8, h⟩ := gd_e h
      obtain ⟨s9, es9, h⟩ := bnd_e h
      refine m_iast 25 35 hC (MIn_self o) (by decide) rfl g8 es9 dX8_stands_25 ?_
      refine gw_aload_n 26 0 hC dX8_stands_26 rfl ?_
      refine mg_36 27 hC dX8_stands_27 ?_
      refine gw_iconst 30 hC dX8_stands_30 ?_
      refine gw_iload_n 31 1 hC dX8_stands_31 rfl ?_
      refine gw_iadd 32 hC dX8_stands_32 ?_
      refine gw_aload_n 33 0 hC dX8_stands_33 rfl ?_
      refine mg_36 34 hC dX8_stands_34 ?_
      refine gw_iload_n 37 1 hC dX8_stands_37 rfl ?_
      obtain ⟨g10, h⟩ := gd_e h
      refine m_iald 38 36 hC (by decide) rfl g10 dX8_stands_38 ?_
      obtain ⟨g11, h⟩ := gd_e h
      obtain ⟨s12, es12, h⟩ := bnd_e h
      refine m_iast 39 36 hC (MIn_self o) (by decide) rfl g11 es12 dX8_stands_39 ?_
      obtain ⟨x1_13, ex1_13, h⟩ := bnd_e h
      refine gw_iinc 40 1 [(1, J x1_13), (0, .ref o)] hC dX8_stands_40 rfl ex1_13 (by decide) rfl ?_
      refine gw_goto 43 7 hC dX8_stands_43 (by decide) ?_
      refine gw_sub [1, 0] rfl ?_
      exact ih _ _ h
theorem wm_stands_L48 {p : Program} {l : Launch} {e : Env} {s : State} {m : MethodId} {args : Array Value} {below : List Frame} {meth : Method} {c : Code} {D : MD} {o : Nat} {res : Int × MS} {k75 : MS → Option (Int × MS)} (hC : GC p s m args meth c cX8_stands RX8 3 none (MK D)) (hk75 : ∀ (s18 : MS), k75 s18 = some res → GW p l e (rmd 1) s m args below meth c 3 (mAd o) (MRp D o) (MK D) 0 res s18 75 [(0, .ref o)] []) : ∀ (n : Nat) (x1_16 : Int) (s17 : MS), m_stands_L48 k75 n x1_16 s17 = some res → GW p l e (rmd 1) s m args below meth c 3 (mAd o) (MRp D o) (MK D) 0 res s17 48 [(0, .ref o), (1, J x1_16)] [] := by
  intro n
  induction n with
  | zero =>
    intro x1_16 s17 h
    cases h
  | succ n ih =>
    intro x1_16 s17 h
    rw [m_stands_L48] at h
    refine gw_iload_n 48 1 hC dX8_stands_48 rfl ?_
    refine gw_bipush 49 hC dX8_stands_49 (by decide) ?_
    refine gw_icmp_ge 51 75 hC dX8_stands_51 (by decide) (fun c19 => ?_) (fun c19 => ?_)
    · replace h := if_t h c19
      refine gw_sub [0] rfl ?_
      exact hk75 _ h
    · replace h := if_f h c19
      refine gw_aload_n 54 0 hC dX8_stands_54 rfl ?_
      refine mg_37 55 hC dX8_stands_55 ?_
      refine gw_bipush 58 hC dX8_stands_58 (by decide) ?_
      refine gw_iload_n 60 1 hC dX8_stands_60 rfl ?_
      refine gw_iadd 61 hC dX8_stands_61 ?_
      refine gw_aload_n 62 0 hC dX8_stands_62 rfl ?_
      refine mg_37 63 hC dX8_stands_63 ?_
      refine gw_iload_n 66 1 hC dX8_stands_66 rfl ?_
      obtain ⟨g20, h⟩ := gd_e h
      refine m_lald 67 37 hC (by decide) rfl g20 dX8_stands_67 ?_
      obtain ⟨g21, h⟩ := gd_e h
      obtain ⟨s22, es22, h⟩ := bnd_e h
      refine m_last 68 37 hC (MIn_self o) (by decide) rfl g21 es22 dX8_stands_68 ?_
      obtain ⟨x1_23, ex1_23, h⟩ := bnd_e h
      refine gw_iinc 69 1 [(1, J x1_23), (0, .ref o)] hC dX8_stands_69 rfl ex1_23 (by decide) rfl ?_
      refine gw_goto 72 48 hC dX8_stands_72 (by decide) ?_
      refine gw_sub [1, 0] rfl ?_
      exact ih _ _ h
theorem wm_stands_L77 {p : Program} {l : Launch} {e : Env} {s : State} {m : MethodId} {args : Array Value} {below : List Frame} {meth : Method} {c : Code} {D : MD} {o : Nat} {res : Int × MS} {k104 : MS → Option (Int × MS)} (hC : GC p s m args meth c cX8_stands RX8 3 none (MK D)) (hk104 : ∀ (s28 : MS), k104 s28 = some res → GW p l e (rmd 1) s m args below meth c 3 (mAd o) (MRp D o) (MK D) 0 res s28 104 [(0, .ref o)] []) : ∀ (n : Nat) (x1_26 : Int) (s27 : MS), m_stands_L77 k104 n x1_26 s27 = some res → GW p l e (rmd 1) s m args below meth c 3 (mAd o) (MRp D o) (MK D) 0 res s27 77 [(0, .ref o), (1, J x1_26)] [] := by
  intro n
  induction n with
  | zero =>
    intro x1_26 s27 h
    cases h
  | succ n ih =>
    intro x1_26 s27 h
    rw [m_stands_L77] at h
    refine gw_iload_n 77 1 hC dX8_stands_77 rfl ?_
    refine gw_bipush 78 hC dX8_stands_78 (by decide) ?_
    refine gw_icmp_ge 80 104 hC dX8_stands_80 (by decide) (fun c29 => ?_) (fun c29 => ?_)
    · replace h := if_t h c29
      refine gw_sub [0] rfl ?_
      exact hk104 _ h
    · replace h := if_f h c29
      refine gw_aload_n 83 0 hC dX8_stands_83 rfl ?_
      refine mg_39 84 hC dX8_stands_84 ?_
      refine gw_bipush 87 hC dX8_stands_87 (by decide) ?_
      refine gw_iload_n 89 1 hC dX8_stands_89 rfl ?_
      refine gw_iadd 90 hC dX8_stands_90 ?_
      refine gw_aload_n 91 0 hC dX8_stands_91 rfl ?_
      refine mg_39 92 hC dX8_stands_92 ?_
      refine gw_iload_n 95 1 hC dX8_stands_95 rfl ?_
      obtain ⟨g30, h⟩ := gd_e h
      refine m_iald 96 39 hC (by decide) rfl g30 dX8_stands_96 ?_
      obtain ⟨g31, h⟩ := gd_e h
      obtain ⟨s32, es32, h⟩ := bnd_e h
      refine m_iast 97 39 hC (MIn_self o) (by decide) rfl g31 es32 dX8_stands_97 ?_
      obtain ⟨x1_33, ex1_33, h⟩ := bnd_e h
      refine gw_iinc 98 1 [(1, J x1_33), (0, .ref o)] hC dX8_stands_98 rfl ex1_33 (by decide) rfl ?_
      refine gw_goto 101 77 hC dX8_stands_101 (by decide) ?_
      refine gw_sub [1, 0] rfl ?_
      exact ih _ _ h
theorem wm_stands_L106 {p : Program} {l : Launch} {e : Env} {s : State} {m : MethodId} {args : Array Value} {below : List Frame} {meth : Method} {c : Code} {D : MD} {o : Nat} {res : Int × MS} {k145 : MS → Option (Int × MS)} (hC : GC p s m args meth c cX8_stands RX8 3 none (MK D)) (hk145 : ∀ (s38 : MS), k145 s38 = some res → GW p l e (rmd 1) s m args below meth c 3 (mAd o) (MRp D o) (MK D) 0 res s38 145 [(0, .ref o)] []) : ∀ (n : Nat) (x1_36 : Int) (s37 : MS), m_stands_L106 k145 n x1_36 s37 = some res → GW p l e (rmd 1) s m args below meth c 3 (mAd o) (MRp D o) (MK D) 0 res s37 106 [(0, .ref o), (1, J x1_36)] [] := by
  intro n
  induction n with
  | zero =>
    intro x1_36 s37 h
    cases h
  | succ n ih =>
    intro x1_36 s37 h
    rw [m_stands_L106] at h
    refine gw_iload_n 106 1 hC dX8_stands_106 rfl ?_
    refine gw_iconst 107 hC dX8_stands_107 ?_
    refine gw_icmp_ge 108 145 hC dX8_stands_108 (by decide) (fun c39 => ?_) (fun c39 => ?_)
    · replace h := if_t h c39
      refine gw_sub [0] rfl ?_
      exact hk145 _ h
    · replace h := if_f h c39
      refine gw_aload_n 111 0 hC dX8_stands_111 rfl ?_
      refine mg_41 112 hC dX8_stands_112 ?_
      refine gw_iconst 115 hC dX8_stands_115 ?_
      refine gw_iload_n 116 1 hC dX8_stands_116 rfl ?_
      refine gw_iadd 117 hC dX8_stands_117 ?_
      refine gw_aload_n 118 0 hC dX8_stands_118 rfl ?_
      refine mg_41 119 hC dX8_stands_119 ?_
      refine gw_iload_n 122 1 hC dX8_stands_122 rfl ?_
      obtain ⟨g40, h⟩ := gd_e h
      refine m_iald 123 41 hC (by decide) rfl g40 dX8_stands_123 ?_
      obtain ⟨g41, h⟩ := gd_e h
      obtain ⟨s42, es42, h⟩ := bnd_e h
      refine m_iast 124 41 hC (MIn_self o) (by decide) rfl g41 es42 dX8_stands_124 ?_
      refine gw_aload_n 125 0 hC dX8_stands_125 rfl ?_
      refine mg_42 126 hC dX8_stands_126 ?_
      refine gw_iconst 129 hC dX8_stands_129 ?_
      refine gw_iload_n 130 1 hC dX8_stands_130 rfl ?_
      refine gw_iadd 131 hC dX8_stands_131 ?_
      refine gw_aload_n 132 0 hC dX8_stands_132 rfl ?_
      refine mg_42 133 hC dX8_stands_133 ?_
      refine gw_iload_n 136 1 hC dX8_stands_136 rfl ?_
      obtain ⟨g43, h⟩ := gd_e h
      refine m_iald 137 42 hC (by decide) rfl g43 dX8_stands_137 ?_
      obtain ⟨g44, h⟩ := gd_e h
      obtain ⟨s45, es45, h⟩ := bnd_e h
      refine m_iast 138 42 hC (MIn_self o) (by decide) rfl g44 es45 dX8_stands_138 ?_
      obtain ⟨x1_46, ex1_46, h⟩ := bnd_e h
      refine gw_iinc 139 1 [(1, J x1_46), (0, .ref o)] hC dX8_stands_139 rfl ex1_46 (by decide) rfl ?_
      refine gw_goto 142 106 hC dX8_stands_142 (by decide) ?_
      refine gw_sub [1, 0] rfl ?_
      exact ih _ _ h
theorem wm_stands_L147 {p : Program} {l : Launch} {e : Env} {s : State} {m : MethodId} {args : Array Value} {below : List Frame} {meth : Method} {c : Code} {D : MD} {o : Nat} {res : Int × MS} {k177 : MS → Option (Int × MS)} (hC : GC p s m args meth c cX8_stands RX8 3 none (MK D)) (hk177 : ∀ (s51 : MS), k177 s51 = some res → GW p l e (rmd 1) s m args below meth c 3 (mAd o) (MRp D o) (MK D) 0 res s51 177 [(0, .ref o)] []) : ∀ (n : Nat) (x1_49 : Int) (s50 : MS), m_stands_L147 k177 n x1_49 s50 = some res → GW p l e (rmd 1) s m args below meth c 3 (mAd o) (MRp D o) (MK D) 0 res s50 147 [(0, .ref o), (1, J x1_49)] [] := by
  intro n
  induction n with
  | zero =>
    intro x1_49 s50 h
    cases h
  | succ n ih =>
    intro x1_49 s50 h
    rw [m_stands_L147] at h
    refine gw_iload_n 147 1 hC dX8_stands_147 rfl ?_
    refine gw_aload_n 148 0 hC dX8_stands_148 rfl ?_
    refine mg_44 149 hC dX8_stands_149 ?_
    refine gw_icmp_ge 152 177 hC dX8_stands_152 (by decide) (fun c52 => ?_) (fun c52 => ?_)
    · replace h := if_t h c52
      refine gw_sub [0] rfl ?_
      exact hk177 _ h
    · replace h := if_f h c52
      refine gw_aload_n 155 0 hC dX8_stands_155 rfl ?_
      refine mg_43 156 hC dX8_stands_156 ?_
      refine gw_sipush 159 hC dX8_stands_159 (by decide) ?_
      refine gw_iload_n 162 1 hC dX8_stands_162 rfl ?_
      refine gw_iadd 163 hC dX8_stands_163 ?_
      refine gw_aload_n 164 0 hC dX8_stands_164 rfl ?_
      refine mg_43 165 hC dX8_stands_165 ?_
      refine gw_iload_n 168 1 hC dX8_stands_168 rfl ?_
      obtain ⟨g53, h⟩ := gd_e h
      refine m_iald 169 43 hC (by decide) rfl g53 dX8_stands_169 ?_
      obtain ⟨g54, h⟩ := gd_e h
      obtain ⟨s55, es55, h⟩ := bnd_e h
      refine m_iast 170 43 hC (MIn_self o) (by decide) rfl g54 es55 dX8_stands_170 ?_
      obtain ⟨x1_56, ex1_56, h⟩ := bnd_e h
      refine gw_iinc 171 1 [(1, J x1_56), (0, .ref o)] hC dX8_stands_171 rfl ex1_56 (by decide) rfl ?_
      refine gw_goto 174 147 hC dX8_stands_174 (by decide) ?_
      refine gw_sub [1, 0] rfl ?_
      exact ih _ _ h
theorem wm_stands_L179 {p : Program} {l : Launch} {e : Env} {s : State} {m : MethodId} {args : Array Value} {below : List Frame} {meth : Method} {c : Code} {D : MD} {o : Nat} {res : Int × MS} {k199 : MS → Option (Int × MS)} (hC : GC p s m args meth c cX8_stands RX8 3 none (MK D)) (hk199 : ∀ (s61 : MS), k199 s61 = some res → GW p l e (rmd 1) s m args below meth c 3 (mAd o) (MRp D o) (MK D) 0 res s61 199 [(0, .ref o)] []) : ∀ (n : Nat) (x1_59 : Int) (s60 : MS), m_stands_L179 k199 n x1_59 s60 = some res → GW p l e (rmd 1) s m args below meth c 3 (mAd o) (MRp D o) (MK D) 0 res s60 179 [(0, .ref o), (1, J x1_59)] [] := by
  intro n
  induction n with
  | zero =>
    intro x1_59 s60 h
    cases h
  | succ n ih =>
    intro x1_59 s60 h
    rw [m_stands_L179] at h
    refine gw_iload_n 179 1 hC dX8_stands_179 rfl ?_
    refine gw_sipush 180 hC dX8_stands_180 (by decide) ?_
    refine gw_icmp_ge 183 199 hC dX8_stands_183 (by decide) (fun c62 => ?_) (fun c62 => ?_)
    · replace h := if_t h c62
      refine gw_sub [0] rfl ?_
      exact hk199 _ h
    · replace h := if_f h c62
      refine gw_aload_n 186 0 hC dX8_stands_186 rfl ?_
      refine mg_48 187 hC dX8_stands_187 ?_
      refine gw_iload_n 190 1 hC dX8_stands_190 rfl ?_
      refine gw_iconst 191 hC dX8_stands_191 ?_
      obtain ⟨g63, h⟩ := gd_e h
      obtain ⟨s64, es64, h⟩ := bnd_e h
      refine m_iast 192 48 hC (MIn_self o) (by decide) rfl g63 es64 dX8_stands_192 ?_
      obtain ⟨x1_65, ex1_65, h⟩ := bnd_e h
      refine gw_iinc 193 1 [(1, J x1_65), (0, .ref o)] hC dX8_stands_193 rfl ex1_65 (by decide) rfl ?_
      refine gw_goto 196 179 hC dX8_stands_196 (by decide) ?_
      refine gw_sub [1, 0] rfl ?_
      exact ih _ _ h
theorem wm_stands_L201 {p : Program} {l : Launch} {e : Env} {s : State} {m : MethodId} {args : Array Value} {below : List Frame} {meth : Method} {c : Code} {D : MD} {o : Nat} {res : Int × MS} {k233 : MS → Option (Int × MS)} (hC : GC p s m args meth c cX8_stands RX8 3 none (MK D)) (hk233 : ∀ (s70 : MS), k233 s70 = some res → GW p l e (rmd 1) s m args below meth c 3 (mAd o) (MRp D o) (MK D) 0 res s70 233 [(0, .ref o)] []) : ∀ (n : Nat) (x1_68 : Int) (s69 : MS), m_stands_L201 k233 n x1_68 s69 = some res → GW p l e (rmd 1) s m args below meth c 3 (mAd o) (MRp D o) (MK D) 0 res s69 201 [(0, .ref o), (1, J x1_68)] [] := by
  intro n
  induction n with
  | zero =>
    intro x1_68 s69 h
    cases h
  | succ n ih =>
    intro x1_68 s69 h
    rw [m_stands_L201] at h
    refine gw_iload_n 201 1 hC dX8_stands_201 rfl ?_
    refine gw_aload_n 202 0 hC dX8_stands_202 rfl ?_
    refine mg_36 203 hC dX8_stands_203 ?_
    refine gw_iconst 206 hC dX8_stands_206 ?_
    obtain ⟨g71, h⟩ := gd_e h
    refine m_iald 207 36 hC (by decide) rfl g71 dX8_stands_207 ?_
    refine gw_icmp_ge 208 233 hC dX8_stands_208 (by decide) (fun c72 => ?_) (fun c72 => ?_)
    · replace h := if_t h c72
      refine gw_sub [0] rfl ?_
      exact hk233 _ h
    · replace h := if_f h c72
      refine gw_aload_n 211 0 hC dX8_stands_211 rfl ?_
      refine mg_48 212 hC dX8_stands_212 ?_
      refine gw_iconst 215 hC dX8_stands_215 ?_
      refine gw_iload_n 216 1 hC dX8_stands_216 rfl ?_
      refine gw_iadd 217 hC dX8_stands_217 ?_
      refine gw_aload_n 218 0 hC dX8_stands_218 rfl ?_
      refine mg_40 219 hC dX8_stands_219 ?_
      refine gw_iload_n 222 1 hC dX8_stands_222 rfl ?_
      refine gw_ishr 223 hC dX8_stands_223 ?_
      refine gw_iconst 224 hC dX8_stands_224 ?_
      refine gw_iand 225 hC dX8_stands_225 ?_
      obtain ⟨g73, h⟩ := gd_e h
      obtain ⟨s74, es74, h⟩ := bnd_e h
      refine m_iast 226 48 hC (MIn_self o) (by decide) rfl g73 es74 dX8_stands_226 ?_
      obtain ⟨x1_75, ex1_75, h⟩ := bnd_e h
      refine gw_iinc 227 1 [(1, J x1_75), (0, .ref o)] hC dX8_stands_227 rfl ex1_75 (by decide) rfl ?_
      refine gw_goto 230 201 hC dX8_stands_230 (by decide) ?_
      refine gw_sub [1, 0] rfl ?_
      exact ih _ _ h
theorem wm_stands_L247 {p : Program} {l : Launch} {e : Env} {s : State} {m : MethodId} {args : Array Value} {below : List Frame} {meth : Method} {c : Code} {D : MD} {o : Nat} {res : Int × MS} {k282 : Int → MS → Option (Int × MS)} (hC : GC p s m args meth c cX8_stands RX8 3 none (MK D)) (hk282 : ∀ (x1_87 : Int) (s88 : MS), k282 x1_87 s88 = some res → GW p l e (rmd 1) s m args below meth c 3 (mAd o) (MRp D o) (MK D) 0 res s88 282 [(0, .ref o), (1, J x1_87)] []) : ∀ (n : Nat) (x1_84 : Int) (x2_85 : Int) (s86 : MS), m_stands_L247 k282 n x1_84 x2_85 s86 = some res → GW p l e (rmd 1) s m args below meth c 3 (mAd o) (MRp D o) (MK D) 0 res s86 247 [(0, .ref o), (1, J x1_84), (2, J x2_85)] [] := by
  intro n
  induction n with
  | zero =>
    intro x1_84 x2_85 s86 h
    cases h
  | succ n ih =>
    intro x1_84 x2_85 s86 h
    rw [m_stands_L247] at h
    refine gw_iload_n 247 2 hC dX8_stands_247 rfl ?_
    refine gw_iconst 248 hC dX8_stands_248 ?_
    refine gw_icmp_ge 249 282 hC dX8_stands_249 (by decide) (fun c89 => ?_) (fun c89 => ?_)
    · replace h := if_t h c89
      refine gw_sub [0, 1] rfl ?_
      exact hk282 _ _ h
    · replace h := if_f h c89
      refine gw_aload_n 252 0 hC dX8_stands_252 rfl ?_
      refine mg_48 253 hC dX8_stands_253 ?_
      refine gw_bipush 256 hC dX8_stands_256 (by decide) ?_
      refine gw_bipush 258 hC dX8_stands_258 (by decide) ?_
      refine gw_iload_n 260 1 hC dX8_stands_260 rfl ?_
      refine gw_imul 261 hC dX8_stands_261 ?_
      refine gw_iadd 262 hC dX8_stands_262 ?_
      refine gw_iload_n 263 2 hC dX8_stands_263 rfl ?_
      refine gw_iadd 264 hC dX8_stands_264 ?_
      refine gw_aload_n 265 0 hC dX8_stands_265 rfl ?_
      refine mg_38 266 hC dX8_stands_266 ?_
      refine gw_iconst 269 hC dX8_stands_269 ?_
      refine gw_iload_n 270 1 hC dX8_stands_270 rfl ?_
      refine gw_imul 271 hC dX8_stands_271 ?_
      refine gw_iload_n 272 2 hC dX8_stands_272 rfl ?_
      refine gw_iadd 273 hC dX8_stands_273 ?_
      obtain ⟨g90, h⟩ := gd_e h
      refine m_iald 274 38 hC (by decide) rfl g90 dX8_stands_274 ?_
      obtain ⟨g91, h⟩ := gd_e h
      obtain ⟨s92, es92, h⟩ := bnd_e h
      refine m_iast 275 48 hC (MIn_self o) (by decide) rfl g91 es92 dX8_stands_275 ?_
      obtain ⟨x2_93, ex2_93, h⟩ := bnd_e h
      refine gw_iinc 276 2 [(2, J x2_93), (0, .ref o), (1, J x1_84)] hC dX8_stands_276 rfl ex2_93 (by decide) rfl ?_
      refine gw_goto 279 247 hC dX8_stands_279 (by decide) ?_
      refine gw_sub [1, 2, 0] rfl ?_
      exact ih _ _ _ h
theorem wm_stands_L235 {p : Program} {l : Launch} {e : Env} {s : State} {m : MethodId} {args : Array Value} {below : List Frame} {meth : Method} {c : Code} {D : MD} {o : Nat} {res : Int × MS} {k288 : MS → Option (Int × MS)} (hC : GC p s m args meth c cX8_stands RX8 3 none (MK D)) (hk288 : ∀ (s80 : MS), k288 s80 = some res → GW p l e (rmd 1) s m args below meth c 3 (mAd o) (MRp D o) (MK D) 0 res s80 288 [(0, .ref o)] []) : ∀ (n : Nat) (x1_78 : Int) (s79 : MS), m_stands_L235 k288 n x1_78 s79 = some res → GW p l e (rmd 1) s m args below meth c 3 (mAd o) (MRp D o) (MK D) 0 res s79 235 [(0, .ref o), (1, J x1_78)] [] := by
  intro n
  induction n with
  | zero =>
    intro x1_78 s79 h
    cases h
  | succ n ih =>
    intro x1_78 s79 h
    rw [m_stands_L235] at h
    refine gw_iload_n 235 1 hC dX8_stands_235 rfl ?_
    refine gw_aload_n 236 0 hC dX8_stands_236 rfl ?_
    refine mg_36 237 hC dX8_stands_237 ?_
    refine gw_iconst 240 hC dX8_stands_240 ?_
    obtain ⟨g81, h⟩ := gd_e h
    refine m_iald 241 36 hC (by decide) rfl g81 dX8_stands_241 ?_
    refine gw_icmp_ge 242 288 hC dX8_stands_242 (by decide) (fun c82 => ?_) (fun c82 => ?_)
    · replace h := if_t h c82
      refine gw_sub [0] rfl ?_
      exact hk288 _ h
    · replace h := if_f h c82
      refine gw_iconst 245 hC dX8_stands_245 ?_
      obtain ⟨x2_83, ex2_83, h⟩ := bnd_e h
      refine gw_istore_n 246 [(2, J x2_83), (0, .ref o), (1, J x1_78)] hC dX8_stands_246 (by decide) ex2_83 rfl ?_
      refine gw_sub [1, 2, 0] rfl ?_
      refine wm_stands_L247 hC (fun x1_94 s95 h => ?_) FU _ _ _ h
      · obtain ⟨x1_96, ex1_96, h⟩ := bnd_e h
        refine gw_iinc 282 1 [(1, J x1_96), (0, .ref o)] hC dX8_stands_282 rfl ex1_96 (by decide) rfl ?_
        refine gw_goto 285 235 hC dX8_stands_285 (by decide) ?_
        refine gw_sub [1, 0] rfl ?_
        exact ih _ _ h
theorem met_stands {D : MD} {o : Nat} {s0 : MS} {res : Int × MS} (h : m_stands s0 = some res) (l : Launch) : GMet l yX8_stands cX8_stands 3 none 1 (MRp D o) (MK D) (mAd o) [.ref o] s0 0 res := by
  refine GMet.of [(0, .ref o)] (by decide) (MK_moved D) (Nat.le_of_ble_eq_true rfl) rfl ?_
  intro p e s m args below meth c hC
  have hC : GC p s m args meth c cX8_stands RX8 3 none (MK D) := hC
  unfold m_stands at h
  refine gw_aload_n 0 0 hC dX8_stands_0 rfl ?_
  refine gw_iconst 1 hC dX8_stands_1 ?_
  obtain ⟨s1, es1, h⟩ := bnd_e h
  refine mp_46 2 hC (MIn_self o) (by decide) es1 dX8_stands_2 ?_
  refine gw_iconst 5 hC dX8_stands_5 ?_
  obtain ⟨x1_2, ex1_2, h⟩ := bnd_e h
  refine gw_istore_n 6 [(1, J x1_2), (0, .ref o)] hC dX8_stands_6 (by decide) ex1_2 rfl ?_
  refine gw_sub [1, 0] rfl ?_
  refine wm_stands_L7 hC (fun s14 h => ?_) FU _ _ h
  · refine gw_iconst 46 hC dX8_stands_46 ?_
    obtain ⟨x1_15, ex1_15, h⟩ := bnd_e h
    refine gw_istore_n 47 [(1, J x1_15), (0, .ref o)] hC dX8_stands_47 (by decide) ex1_15 rfl ?_
    refine gw_sub [1, 0] rfl ?_
    refine wm_stands_L48 hC (fun s24 h => ?_) FU _ _ h
    · refine gw_iconst 75 hC dX8_stands_75 ?_
      obtain ⟨x1_25, ex1_25, h⟩ := bnd_e h
      refine gw_istore_n 76 [(1, J x1_25), (0, .ref o)] hC dX8_stands_76 (by decide) ex1_25 rfl ?_
      refine gw_sub [1, 0] rfl ?_
      refine wm_stands_L77 hC (fun s34 h => ?_) FU _ _ h
      · refine gw_iconst 104 hC dX8_stands_104 ?_
        obtain ⟨x1_35, ex1_35, h⟩ := bnd_e h
        refine gw_istore_n 105 [(1, J x1_35), (0, .ref o)] hC dX8_stands_105 (by decide) ex1_35 rfl ?_
        refine gw_sub [1, 0] rfl ?_
        refine wm_stands_L106 hC (fun s47 h => ?_) FU _ _ h
        · refine gw_iconst 145 hC dX8_stands_145 ?_
          obtain ⟨x1_48, ex1_48, h⟩ := bnd_e h
          refine gw_istore_n 146 [(1, J x1_48), (0, .ref o)] hC dX8_stands_146 (by decide) ex1_48 rfl ?_
          refine gw_sub [1, 0] rfl ?_
          refine wm_stands_L147 hC (fun s57 h => ?_) FU _ _ h
          · refine gw_iconst 177 hC dX8_stands_177 ?_
            obtain ⟨x1_58, ex1_58, h⟩ := bnd_e h
            refine gw_istore_n 178 [(1, J x1_58), (0, .ref o)] hC dX8_stands_178 (by decide) ex1_58 rfl ?_
            refine gw_sub [1, 0] rfl ?_
            refine wm_stands_L179 hC (fun s66 h => ?_) FU _ _ h
            · refine gw_iconst 199 hC dX8_stands_199 ?_
              obtain ⟨x1_67, ex1_67, h⟩ := bnd_e h
              refine gw_istore_n 200 [(1, J x1_67), (0, .ref o)] hC dX8_stands_200 (by decide) ex1_67 rfl ?_
              refine gw_sub [1, 0] rfl ?_
              refine wm_stands_L201 hC (fun s76 h => ?_) FU _ _ h
              · refine gw_iconst 233 hC dX8_stands_233 ?_
                obtain ⟨x1_77, ex1_77, h⟩ := bnd_e h
                refine gw_istore_n 234 [(1, J x1_77), (0, .ref o)] hC dX8_stands_234 (by decide) ex1_77 rfl ?_
                refine gw_sub [1, 0] rfl ?_
                refine wm_stands_L235 hC (fun s97 h => ?_) FU _ _ h
                · refine gw_aload_n 288 0 hC dX8_stands_288 rfl ?_
                  refine gw_iconst 289 hC dX8_stands_289 ?_
                  obtain ⟨s98, es98, h⟩ := bnd_e h
                  refine mp_70 290 hC (MIn_self o) es98 dX8_stands_290 ?_
                  refine gw_aload_n 293 0 hC dX8_stands_293 rfl ?_
                  refine gw_iconst 294 hC dX8_stands_294 ?_
                  obtain ⟨s99, es99, h⟩ := bnd_e h
                  refine mp_64 295 hC (MIn_self o) es99 dX8_stands_295 ?_
                  exact gw_vret 298 hC dX8_stands_298 h
/-! country()I -/
noncomputable def m_country_L66 (k84 : MS → Option (Int × MS)) : Nat → Int → MS → Option (Int × MS)
  | 0, _, _ => none
  | n + 1, x1_16, s17 =>
    if i32 3 ≤ i32 x1_16 then
      k84 s17
    else
      gd (ok 6 x1_16) <|
      bnd (up s17 41 (i32 x1_16) (-1)) fun s21 =>
      bnd (x1_16 + 1) fun x1_22 =>
      m_country_L66 k84 n x1_22 s21
noncomputable def m_country_L93 (k115 : MS → Option (Int × MS)) : Nat → MS → Option (Int × MS)
  | 0, _ => none
  | n + 1, s26 =>
    if i32 (s26 5 0) = 0 then
      Option.bind (m_look s26) fun z29 =>
      if i32 z29.1 = i32 (-1) then
        k115 z29.2
      else
        Option.bind (m_statementTold z29.2) fun z31 =>
        m_country_L93 k115 n z31.2
    else
      k115 s26
noncomputable def m_country (s0 : MS) : Option (Int × MS) :=
  bnd (up s0 3 0 (s0 1 0)) fun s1 =>
  bnd (up s1 1 0 0) fun s2 =>
  bnd (up s2 2 0 0) fun s3 =>
  bnd (up s3 4 0 (-1)) fun s4 =>
  bnd (up s4 5 0 0) fun s5 =>
  bnd (up s5 6 0 (-1)) fun s6 =>
  bnd (up s6 44 0 0) fun s7 =>
  gd (ok 4 0) <|
  bnd (up s7 36 (i32 0) 0) fun s9 =>
  gd (ok 4 1) <|
  bnd (up s9 36 (i32 1) 0) fun s11 =>
  bnd (up s11 40 0 0) fun s12 =>
  gd (ok 4 1) <|
  bnd (up s12 35 (i32 1) 0) fun s14 =>
  bnd 0 fun x1_15 =>
  m_country_L66
    (fun (s23 : MS) =>
      Option.bind (m_duskTold s23) fun z24 =>
      bnd (up z24.2 45 0 1) fun s25 =>
      m_country_L93
        (fun (s32 : MS) =>
          bnd (up s32 7 0 (s32 5 0)) fun s33 =>
          bnd (up s33 8 0 (s33 6 0)) fun s34 =>
          if i32 (s34 5 0) = 0 then
            Option.bind (m_stands s34) fun z36 =>
            some ((z36.2 45 0), z36.2)
          else
            gd (ok 6 1) <|
            gd (ok 6 1) <|
            bnd (up s34 9 (i32 1) ((s34 9 (i32 1)) + 1)) fun s39 =>
            some ((-1), s39))
        FU s25)
    FU x1_15 s14
theorem wm_country_L66 {p : Program} {l : Launch} {e : Env} {s : State} {m : MethodId} {args : Array Value} {below : List Frame} {meth : Method} {c : Code} {D : MD} {o : Nat} {res : Int × MS} {k84 : MS → Option (Int × MS)} (hC : GC p s m args meth c cX8_country RX8 2 (some .int) (MK D)) (hk84 : ∀ (s18 : MS), k84 s18 = some res → GW p l e (rmd 12) s m args below meth c 2 (mAd o) (MRp D o) (MK D) 1 res s18 84 [(0, .ref o)] []) : ∀ (n : Nat) (x1_16 : Int) (s17 : MS), m_country_L66 k84 n x1_16 s17 = some res → GW p l e (rmd 12) s m args below meth c 2 (mAd o) (MRp D o) (MK D) 1 res s17 66 [(0, .ref o), (1, J x1_16)] [] := by
  intro n
  induction n with
  | zero =>
    intro x1_16 s17 h
    cases h
  | succ n ih =>
    intro x1_16 s17 h
    rw [m_country_L66] at h
    refine gw_iload_n 66 1 hC dX8_country_66 rfl ?_
    refine gw_iconst 67 hC dX8_country_67 ?_
    refine gw_icmp_ge 68 84 hC dX8_country_68 (by decide) (fun c19 => ?_) (fun c19 => ?_)
    · replace h := if_t h c19
      refine gw_sub [0] rfl ?_
      exact hk84 _ h
    · replace h := if_f h c19
      refine gw_aload_n 71 0 hC dX8_country_71 rfl ?_
      refine mg_41 72 hC dX8_country_72 ?_
      refine gw_iload_n 75 1 hC dX8_country_75 rfl ?_
      refine gw_iconst 76 hC dX8_country_76 ?_
      obtain ⟨g20, h⟩ := gd_e h
      obtain ⟨s21, es21, h⟩ := bnd_e h
      refine m_iast 77 41 hC (MIn_self o) (by decide) rfl g20 es21 dX8_country_77 ?_
      obtain ⟨x1_22, ex1_22, h⟩ := bnd_e h
      refine gw_iinc 78 1 [(1, J x1_22), (0, .ref o)] hC dX8_country_78 rfl ex1_22 (by decide) rfl ?_
      refine gw_goto 81 66 hC dX8_country_81 (by decide) ?_
      refine gw_sub [1, 0] rfl ?_
      exact ih _ _ h
theorem wm_country_L93 {p : Program} {l : Launch} {e : Env} {s : State} {m : MethodId} {args : Array Value} {below : List Frame} {meth : Method} {c : Code} {D : MD} {o : Nat} {res : Int × MS} {k115 : MS → Option (Int × MS)} (hC : GC p s m args meth c cX8_country RX8 2 (some .int) (MK D)) (hk115 : ∀ (s27 : MS), k115 s27 = some res → GW p l e (rmd 12) s m args below meth c 2 (mAd o) (MRp D o) (MK D) 1 res s27 115 [(0, .ref o)] []) : ∀ (n : Nat) (s26 : MS), m_country_L93 k115 n s26 = some res → GW p l e (rmd 12) s m args below meth c 2 (mAd o) (MRp D o) (MK D) 1 res s26 93 [(0, .ref o)] [] := by
  intro n
  induction n with
  | zero =>
    intro s26 h
    cases h
  | succ n ih =>
    intro s26 h
    rw [m_country_L93] at h
    refine gw_aload_n 93 0 hC dX8_country_93 rfl ?_
    refine mg_5 94 hC dX8_country_94 ?_
    refine gw_if_ne 97 115 hC dX8_country_97 (by decide) (fun c28 => ?_) (fun c28 => ?_)
    · replace h := if_f h c28
      refine gw_sub [0] rfl ?_
      exact hk115 _ h
    · replace h := if_t h c28
      refine gw_aload_n 100 0 hC dX8_country_100 rfl ?_
      obtain ⟨z29, ez29, h⟩ := opt_e h
      refine gw_callV (As := []) (rest := []) (st' := [J z29.1]) 101 0 hC (met_look ez29 l) (lw_V q2105 q2107 qs59 q161 q2108) (by decide +kernel) (by decide) (m_recv hC) rfl rfl (Nat.le_of_ble_eq_true rfl) dX8_country_101 rfl ?_
      refine gw_iconst 104 hC dX8_country_104 ?_
      refine gw_icmp_eq 105 115 hC dX8_country_105 (by decide) (fun c30 => ?_) (fun c30 => ?_)
      · replace h := if_t h c30
        refine gw_sub [0] rfl ?_
        exact hk115 _ h
      · replace h := if_f h c30
        refine gw_aload_n 108 0 hC dX8_country_108 rfl ?_
        obtain ⟨z31, ez31, h⟩ := opt_e h
        refine gw_callV (As := []) (rest := []) (st' := []) 109 0 hC (met_statementTold ez31 l) (lw_V q2134 q2136 qs64 q161 q2137) (by decide +kernel) (by decide) (m_recv hC) rfl rfl (Nat.le_of_ble_eq_true rfl) dX8_country_109 rfl ?_
        refine gw_goto 112 93 hC dX8_country_112 (by decide) ?_
        refine gw_sub [0] rfl ?_
        exact ih _ h
theorem met_country {D : MD} {o : Nat} {s0 : MS} {res : Int × MS} (h : m_country s0 = some res) (l : Launch) : GMet l yX8_country cX8_country 2 (some .int) 12 (MRp D o) (MK D) (mAd o) [.ref o] s0 1 res := by
  refine GMet.of [(0, .ref o)] (by decide) (MK_moved D) (Nat.le_of_ble_eq_true rfl) rfl ?_
  intro p e s m args below meth c hC
  have hC : GC p s m args meth c cX8_country RX8 2 (some .int) (MK D) := hC
  unfold m_country at h
  refine gw_aload_n 0 0 hC dX8_country_0 rfl ?_
  refine gw_aload_n 1 0 hC dX8_country_1 rfl ?_
  refine mg_1 2 hC dX8_country_2 ?_
  obtain ⟨s1, es1, h⟩ := bnd_e h
  refine mp_3 5 hC (MIn_self o) es1 dX8_country_5 ?_
  refine gw_aload_n 8 0 hC dX8_country_8 rfl ?_
  refine gw_iconst 9 hC dX8_country_9 ?_
  obtain ⟨s2, es2, h⟩ := bnd_e h
  refine mp_1 10 hC (MIn_self o) es2 dX8_country_10 ?_
  refine gw_aload_n 13 0 hC dX8_country_13 rfl ?_
  refine gw_iconst 14 hC dX8_country_14 ?_
  obtain ⟨s3, es3, h⟩ := bnd_e h
  refine mp_2 15 hC (MIn_self o) es3 dX8_country_15 ?_
  refine gw_aload_n 18 0 hC dX8_country_18 rfl ?_
  refine gw_iconst 19 hC dX8_country_19 ?_
  obtain ⟨s4, es4, h⟩ := bnd_e h
  refine mp_4 20 hC (MIn_self o) es4 dX8_country_20 ?_
  refine gw_aload_n 23 0 hC dX8_country_23 rfl ?_
  refine gw_iconst 24 hC dX8_country_24 ?_
  obtain ⟨s5, es5, h⟩ := bnd_e h
  refine mp_5 25 hC (MIn_self o) es5 dX8_country_25 ?_
  refine gw_aload_n 28 0 hC dX8_country_28 rfl ?_
  refine gw_iconst 29 hC dX8_country_29 ?_
  obtain ⟨s6, es6, h⟩ := bnd_e h
  refine mp_6 30 hC (MIn_self o) es6 dX8_country_30 ?_
  refine gw_aload_n 33 0 hC dX8_country_33 rfl ?_
  refine gw_iconst 34 hC dX8_country_34 ?_
  obtain ⟨s7, es7, h⟩ := bnd_e h
  refine mp_44 35 hC (MIn_self o) es7 dX8_country_35 ?_
  refine gw_aload_n 38 0 hC dX8_country_38 rfl ?_
  refine mg_36 39 hC dX8_country_39 ?_
  refine gw_iconst 42 hC dX8_country_42 ?_
  refine gw_iconst 43 hC dX8_country_43 ?_
  obtain ⟨g8, h⟩ := gd_e h
  obtain ⟨s9, es9, h⟩ := bnd_e h
  refine m_iast 44 36 hC (MIn_self o) (by decide) rfl g8 es9 dX8_country_44 ?_
  refine gw_aload_n 45 0 hC dX8_country_45 rfl ?_
  refine mg_36 46 hC dX8_country_46 ?_
  refine gw_iconst 49 hC dX8_country_49 ?_
  refine gw_iconst 50 hC dX8_country_50 ?_
  obtain ⟨g10, h⟩ := gd_e h
  obtain ⟨s11, es11, h⟩ := bnd_e h
  refine m_iast 51 36 hC (MIn_self o) (by decide) rfl g10 es11 dX8_country_51 ?_
  refine gw_aload_n 52 0 hC dX8_country_52 rfl ?_
  refine gw_iconst 53 hC dX8_country_53 ?_
  obtain ⟨s12, es12, h⟩ := bnd_e h
  refine mp_40 54 hC (MIn_self o) es12 dX8_country_54 ?_
  refine gw_aload_n 57 0 hC dX8_country_57 rfl ?_
  refine mg_35 58 hC dX8_country_58 ?_
  refine gw_iconst 61 hC dX8_country_61 ?_
  refine gw_iconst 62 hC dX8_country_62 ?_
  obtain ⟨g13, h⟩ := gd_e h
  obtain ⟨s14, es14, h⟩ := bnd_e h
  refine m_iast 63 35 hC (MIn_self o) (by decide) rfl g13 es14 dX8_country_63 ?_
  refine gw_iconst 64 hC dX8_country_64 ?_
  obtain ⟨x1_15, ex1_15, h⟩ := bnd_e h
  refine gw_istore_n 65 [(1, J x1_15), (0, .ref o)] hC dX8_country_65 (by decide) ex1_15 rfl ?_
  refine gw_sub [1, 0] rfl ?_
  refine wm_country_L66 hC (fun s23 h => ?_) FU _ _ h
  · refine gw_aload_n 84 0 hC dX8_country_84 rfl ?_
    obtain ⟨z24, ez24, h⟩ := opt_e h
    refine gw_callV (As := []) (rest := []) (st' := []) 85 0 hC (met_duskTold ez24 l) (lw_V q2089 q2091 qs55 q161 q2092) (by decide +kernel) (by decide) (m_recv hC) rfl rfl (Nat.le_of_ble_eq_true rfl) dX8_country_85 rfl ?_
    refine gw_aload_n 88 0 hC dX8_country_88 rfl ?_
    refine gw_iconst 89 hC dX8_country_89 ?_
    obtain ⟨s25, es25, h⟩ := bnd_e h
    refine mp_45 90 hC (MIn_self o) es25 dX8_country_90 ?_
    refine gw_sub [0] rfl ?_
    refine wm_country_L93 hC (fun s32 h => ?_) FU _ h
    · refine gw_aload_n 115 0 hC dX8_country_115 rfl ?_
      refine gw_aload_n 116 0 hC dX8_country_116 rfl ?_
      refine mg_5 117 hC dX8_country_117 ?_
      obtain ⟨s33, es33, h⟩ := bnd_e h
      refine mp_7 120 hC (MIn_self o) es33 dX8_country_120 ?_
      refine gw_aload_n 123 0 hC dX8_country_123 rfl ?_
      refine gw_aload_n 124 0 hC dX8_country_124 rfl ?_
      refine mg_6 125 hC dX8_country_125 ?_
      obtain ⟨s34, es34, h⟩ := bnd_e h
      refine mp_8 128 hC (MIn_self o) es34 dX8_country_128 ?_
      refine gw_aload_n 131 0 hC dX8_country_131 rfl ?_
      refine mg_5 132 hC dX8_country_132 ?_
      refine gw_if_eq 135 150 hC dX8_country_135 (by decide) (fun c35 => ?_) (fun c35 => ?_)
      · replace h := if_t h c35
        refine gw_aload_n 150 0 hC dX8_country_150 rfl ?_
        obtain ⟨z36, ez36, h⟩ := opt_e h
        refine gw_callV (As := []) (rest := []) (st' := []) 151 0 hC (met_stands ez36 l) (lw_V q2247 q2249 qs91 q161 q2250) (by decide +kernel) (by decide) (m_recv hC) rfl rfl (Nat.le_of_ble_eq_true rfl) dX8_country_151 rfl ?_
        refine gw_aload_n 154 0 hC dX8_country_154 rfl ?_
        refine mg_45 155 hC dX8_country_155 ?_
        exact gw_iret 158 hC dX8_country_158 h
      · replace h := if_f h c35
        refine gw_aload_n 138 0 hC dX8_country_138 rfl ?_
        refine mg_9 139 hC dX8_country_139 ?_
        refine gw_iconst 142 hC dX8_country_142 ?_
        refine gw_dup2 143 hC dX8_country_143 rfl rfl ?_
        obtain ⟨g37, h⟩ := gd_e h
        refine m_iald 144 9 hC (by decide) rfl g37 dX8_country_144 ?_
        refine gw_iconst 145 hC dX8_country_145 ?_
        refine gw_iadd 146 hC dX8_country_146 ?_
        obtain ⟨g38, h⟩ := gd_e h
        obtain ⟨s39, es39, h⟩ := bnd_e h
        refine m_iast 147 9 hC (MIn_self o) (by decide) rfl g38 es39 dX8_country_147 ?_
        refine gw_iconst 148 hC dX8_country_148 ?_
        exact gw_iret 149 hC dX8_country_149 h
/-! fault(I)I -/
noncomputable def m_fault (a1 : Int) (s0 : MS) : Option (Int × MS) :=
  if i32 a1 = 0 then
    some ((s0 7 0), s0)
  else
    if i32 a1 = i32 1 then
      some ((s0 8 0), s0)
    else
      some ((-1), s0)
theorem met_fault {D : MD} {o : Nat} {a1 : Int} {s0 : MS} {res : Int × MS} (h : m_fault a1 s0 = some res) (l : Launch) : GMet l yX8_fault cX8_fault 2 (some .int) 1 (MRp D o) (MK D) (mAd o) [.ref o, J a1] s0 1 res := by
  refine GMet.of [(0, .ref o), (1, J a1)] (by decide) (MK_moved D) (Nat.le_of_ble_eq_true rfl) rfl ?_
  intro p e s m args below meth c hC
  have hC : GC p s m args meth c cX8_fault RX8 2 (some .int) (MK D) := hC
  unfold m_fault at h
  refine gw_iload_n 0 1 hC dX8_fault_0 rfl ?_
  refine gw_if_ne 1 11 hC dX8_fault_1 (by decide) (fun c2 => ?_) (fun c2 => ?_)
  · replace h := if_f h c2
    refine gw_iload_n 11 1 hC dX8_fault_11 rfl ?_
    refine gw_iconst 12 hC dX8_fault_12 ?_
    refine gw_icmp_ne 13 23 hC dX8_fault_13 (by decide) (fun c3 => ?_) (fun c3 => ?_)
    · replace h := if_f h c3
      refine gw_iconst 23 hC dX8_fault_23 ?_
      exact gw_iret 24 hC dX8_fault_24 h
    · replace h := if_t h c3
      refine gw_aload_n 16 0 hC dX8_fault_16 rfl ?_
      refine mg_8 17 hC dX8_fault_17 ?_
      refine gw_goto 20 24 hC dX8_fault_20 (by decide) ?_
      exact gw_iret 24 hC dX8_fault_24 h
  · replace h := if_t h c2
    refine gw_aload_n 4 0 hC dX8_fault_4 rfl ?_
    refine mg_7 5 hC dX8_fault_5 ?_
    refine gw_goto 8 24 hC dX8_fault_8 (by decide) ?_
    exact gw_iret 24 hC dX8_fault_24 h
/-! verbMany()I -/
noncomputable def m_verbMany (s0 : MS) : Option (Int × MS) :=
  gd (ok 4 3) <|
  some ((s0 36 (i32 3)), s0)
theorem met_verbMany {D : MD} {o : Nat} {s0 : MS} {res : Int × MS} (h : m_verbMany s0 = some res) (l : Launch) : GMet l yX8_verbMany cX8_verbMany 1 (some .int) 1 (MRp D o) (MK D) (mAd o) [.ref o] s0 1 res := by
  refine GMet.of [(0, .ref o)] (by decide) (MK_moved D) (Nat.le_of_ble_eq_true rfl) rfl ?_
  intro p e s m args below meth c hC
  have hC : GC p s m args meth c cX8_verbMany RX8 1 (some .int) (MK D) := hC
  unfold m_verbMany at h
  refine gw_aload_n 0 0 hC dX8_verbMany_0 rfl ?_
  refine mg_36 1 hC dX8_verbMany_1 ?_
  refine gw_iconst 4 hC dX8_verbMany_4 ?_
  obtain ⟨g1, h⟩ := gd_e h
  refine m_iald 5 36 hC (by decide) rfl g1 dX8_verbMany_5 ?_
  exact gw_iret 6 hC dX8_verbMany_6 h
/-! isLent(I)Z -/
noncomputable def m_isLent (a1 : Int) (s0 : MS) : Option (Int × MS) :=
  gd (ok 219 (1 + a1)) <|
  if i32 (s0 48 (i32 (1 + a1))) = i32 1 then
    some (1, s0)
  else
    some (0, s0)
theorem met_isLent {D : MD} {o : Nat} {a1 : Int} {s0 : MS} {res : Int × MS} (h : m_isLent a1 s0 = some res) (l : Launch) : GMet l yX8_isLent cX8_isLent 2 (some .boolean) 1 (MRp D o) (MK D) (mAd o) [.ref o, J a1] s0 1 res := by
  refine GMet.of [(0, .ref o), (1, J a1)] (by decide) (MK_moved D) (Nat.le_of_ble_eq_true rfl) rfl ?_
  intro p e s m args below meth c hC
  have hC : GC p s m args meth c cX8_isLent RX8 2 (some .boolean) (MK D) := hC
  unfold m_isLent at h
  refine gw_aload_n 0 0 hC dX8_isLent_0 rfl ?_
  refine mg_48 1 hC dX8_isLent_1 ?_
  refine gw_iconst 4 hC dX8_isLent_4 ?_
  refine gw_iload_n 5 1 hC dX8_isLent_5 rfl ?_
  refine gw_iadd 6 hC dX8_isLent_6 ?_
  obtain ⟨g2, h⟩ := gd_e h
  refine m_iald 7 48 hC (by decide) rfl g2 dX8_isLent_7 ?_
  refine gw_iconst 8 hC dX8_isLent_8 ?_
  refine gw_icmp_ne 9 16 hC dX8_isLent_9 (by decide) (fun c3 => ?_) (fun c3 => ?_)
  · replace h := if_f h c3
    refine gw_iconst 16 hC dX8_isLent_16 ?_
    exact gw_zret 17 hC dX8_isLent_17 (by decide) h
  · replace h := if_t h c3
    refine gw_iconst 12 hC dX8_isLent_12 ?_
    refine gw_goto 13 17 hC dX8_isLent_13 (by decide) ?_
    exact gw_zret 17 hC dX8_isLent_17 (by decide) h
/-! sack()I -/
noncomputable def m_sack_L4 (k32 : Int → MS → Option (Int × MS)) : Nat → Int → Int → MS → Option (Int × MS)
  | 0, _, _, _ => none
  | n + 1, x1_3, x2_4, s5 =>
    Option.bind (m_verbMany s5) fun z8 =>
    if i32 z8.1 ≤ i32 x2_4 then
      k32 x1_3 z8.2
    else
      Option.bind (m_isLent x2_4 z8.2) fun z10 =>
      bnd (fun (x1_11 : Int) (x2_12 : Int) (s13 : MS) =>
          bnd (x2_12 + 1) fun x2_14 =>
          m_sack_L4 k32 n x1_11 x2_14 s13) fun j15 =>
      if i32 z10.1 = 0 then
        bnd (ior x1_3 (ishl 1 x2_4)) fun x1_17 =>
        j15 x1_17 x2_4 z10.2
      else
        j15 x1_3 x2_4 z10.2
noncomputable def m_sack (s0 : MS) : Option (Int × MS) :=
  bnd 0 fun x1_1 =>
  bnd 0 fun x2_2 =>
  m_sack_L4
    (fun (x1_18 : Int) (s19 : MS) =>
      some (x1_18, s19))
    FU x1_1 x2_2 s0
theorem wm_sack_L4 {p : Program} {l : Launch} {e : Env} {s : State} {m : MethodId} {args : Array Value} {below : List Frame} {meth : Method} {c : Code} {D : MD} {o : Nat} {res : Int × MS} {k32 : Int → MS → Option (Int × MS)} (hC : GC p s m args meth c cX8_sack RX8 3 (some .int) (MK D)) (hk32 : ∀ (x1_6 : Int) (s7 : MS), k32 x1_6 s7 = some res → GW p l e (rmd 2) s m args below meth c 3 (mAd o) (MRp D o) (MK D) 1 res s7 32 [(1, J x1_6)] []) : ∀ (n : Nat) (x1_3 : Int) (x2_4 : Int) (s5 : MS), m_sack_L4 k32 n x1_3 x2_4 s5 = some res → GW p l e (rmd 2) s m args below meth c 3 (mAd o) (MRp D o) (MK D) 1 res s5 4 [(0, .ref o), (1, J x1_3), (2, J x2_4)] [] := by
  intro n
  induction n with
  | zero =>
    intro x1_3 x2_4 s5 h
    cases h
  | succ n ih =>
    intro x1_3 x2_4 s5 h
    rw [m_sack_L4] at h
    refine gw_iload_n 4 2 hC dX8_sack_4 rfl ?_
    refine gw_aload_n 5 0 hC dX8_sack_5 rfl ?_
    obtain ⟨z8, ez8, h⟩ := opt_e h
    refine gw_callV (As := []) (rest := [J x2_4]) (st' := [J z8.1, J x2_4]) 6 0 hC (met_verbMany ez8 l) (lw_V q2259 q2261 qs92 q161 q2262) (by decide +kernel) (by decide) (m_recv hC) rfl rfl (Nat.le_of_ble_eq_true rfl) dX8_sack_6 rfl ?_
    refine gw_icmp_ge 9 32 hC dX8_sack_9 (by decide) (fun c9 => ?_) (fun c9 => ?_)
    · replace h := if_t h c9
      refine gw_sub [1] rfl ?_
      exact hk32 _ _ h
    · replace h := if_f h c9
      refine gw_aload_n 12 0 hC dX8_sack_12 rfl ?_
      refine gw_iload_n 13 2 hC dX8_sack_13 rfl ?_
      obtain ⟨z10, ez10, h⟩ := opt_e h
      refine gw_callV (As := [J x2_4]) (rest := []) (st' := [J z10.1]) 14 1 hC (met_isLent ez10 l) (lw_V q2267 q2269 qs94 q161 q2270) (by decide +kernel) (by decide) (m_recv hC) rfl rfl (Nat.le_of_ble_eq_true rfl) dX8_sack_14 rfl ?_
      obtain ⟨j15, ej15, h⟩ := bnd_e h
      have hj15 : ∀ (x1_11 : Int) (x2_12 : Int) (s13 : MS), j15 x1_11 x2_12 s13 = some res → GW p l e (rmd 2) s m args below meth c 3 (mAd o) (MRp D o) (MK D) 1 res s13 26 [(0, .ref o), (1, J x1_11), (2, J x2_12)] [] := by
        clear h
        intro x1_11 x2_12 s13 h
        subst ej15
        obtain ⟨x2_14, ex2_14, h⟩ := bnd_e h
        refine gw_iinc 26 2 [(2, J x2_14), (0, .ref o), (1, J x1_11)] hC dX8_sack_26 rfl ex2_14 (by decide) rfl ?_
        refine gw_goto 29 4 hC dX8_sack_29 (by decide) ?_
        refine gw_sub [1, 2, 0] rfl ?_
        exact ih _ _ _ h
      refine gw_if_ne 17 26 hC dX8_sack_17 (by decide) (fun c16 => ?_) (fun c16 => ?_)
      · replace h := if_f h c16
        refine gw_sub [0, 1, 2] rfl ?_
        exact hj15 _ _ _ h
      · replace h := if_t h c16
        refine gw_iload_n 20 1 hC dX8_sack_20 rfl ?_
        refine gw_iconst 21 hC dX8_sack_21 ?_
        refine gw_iload_n 22 2 hC dX8_sack_22 rfl ?_
        refine gw_ishl 23 hC dX8_sack_23 ?_
        refine gw_ior 24 hC dX8_sack_24 ?_
        obtain ⟨x1_17, ex1_17, h⟩ := bnd_e h
        refine gw_istore_n 25 [(1, J x1_17), (0, .ref o), (2, J x2_4)] hC dX8_sack_25 (by decide) ex1_17 rfl ?_
        refine gw_sub [1, 0, 2] rfl ?_
        exact hj15 _ _ _ h
theorem met_sack {D : MD} {o : Nat} {s0 : MS} {res : Int × MS} (h : m_sack s0 = some res) (l : Launch) : GMet l yX8_sack cX8_sack 3 (some .int) 2 (MRp D o) (MK D) (mAd o) [.ref o] s0 1 res := by
  refine GMet.of [(0, .ref o)] (by decide) (MK_moved D) (Nat.le_of_ble_eq_true rfl) rfl ?_
  intro p e s m args below meth c hC
  have hC : GC p s m args meth c cX8_sack RX8 3 (some .int) (MK D) := hC
  unfold m_sack at h
  refine gw_iconst 0 hC dX8_sack_0 ?_
  obtain ⟨x1_1, ex1_1, h⟩ := bnd_e h
  refine gw_istore_n 1 [(1, J x1_1), (0, .ref o)] hC dX8_sack_1 (by decide) ex1_1 rfl ?_
  refine gw_iconst 2 hC dX8_sack_2 ?_
  obtain ⟨x2_2, ex2_2, h⟩ := bnd_e h
  refine gw_istore_n 3 [(2, J x2_2), (1, J x1_1), (0, .ref o)] hC dX8_sack_3 (by decide) ex2_2 rfl ?_
  refine gw_sub [2, 1, 0] rfl ?_
  refine wm_sack_L4 hC (fun x1_18 s19 h => ?_) FU _ _ _ h
  · refine gw_iload_n 32 0 hC dX8_sack_32 rfl ?_
    exact gw_iret 33 hC dX8_sack_33 h
/-! bits(I)I -/
noncomputable def m_bits_L4 (k20 : Int → MS → Option (Int × MS)) : Nat → Int → Int → MS → Option (Int × MS)
  | 0, _, _, _ => none
  | n + 1, x1_3, x2_4, s5 =>
    if i32 x2_4 = 0 then
      k20 x1_3 s5
    else
      bnd (x1_3 + 1) fun x1_9 =>
      bnd (iand x2_4 (x2_4 - 1)) fun x2_10 =>
      m_bits_L4 k20 n x1_9 x2_10 s5
noncomputable def m_bits (a1 : Int) (s0 : MS) : Option (Int × MS) :=
  bnd 0 fun x1_2 =>
  m_bits_L4
    (fun (x1_11 : Int) (s12 : MS) =>
      some (x1_11, s12))
    FU x1_2 a1 s0
theorem wm_bits_L4 {p : Program} {l : Launch} {e : Env} {s : State} {m : MethodId} {args : Array Value} {below : List Frame} {meth : Method} {c : Code} {D : MD} {o : Nat} {res : Int × MS} {k20 : Int → MS → Option (Int × MS)} (hC : GC p s m args meth c cX8_bits RX8 3 (some .int) (MK D)) (hk20 : ∀ (x1_6 : Int) (s7 : MS), k20 x1_6 s7 = some res → GW p l e (rmd 1) s m args below meth c 3 (mAd o) (MRp D o) (MK D) 1 res s7 20 [(1, J x1_6)] []) : ∀ (n : Nat) (x1_3 : Int) (x2_4 : Int) (s5 : MS), m_bits_L4 k20 n x1_3 x2_4 s5 = some res → GW p l e (rmd 1) s m args below meth c 3 (mAd o) (MRp D o) (MK D) 1 res s5 4 [(1, J x1_3), (2, J x2_4)] [] := by
  intro n
  induction n with
  | zero =>
    intro x1_3 x2_4 s5 h
    cases h
  | succ n ih =>
    intro x1_3 x2_4 s5 h
    rw [m_bits_L4] at h
    refine gw_iload_n 4 1 hC dX8_bits_4 rfl ?_
    refine gw_if_eq 5 20 hC dX8_bits_5 (by decide) (fun c8 => ?_) (fun c8 => ?_)
    · replace h := if_t h c8
      refine gw_sub [0] rfl ?_
      exact hk20 _ _ h
    · replace h := if_f h c8
      obtain ⟨x1_9, ex1_9, h⟩ := bnd_e h
      refine gw_iinc 8 0 [(1, J x1_9), (2, J x2_4)] hC dX8_bits_8 rfl ex1_9 (by decide) rfl ?_
      refine gw_iload_n 11 1 hC dX8_bits_11 rfl ?_
      refine gw_iload_n 12 1 hC dX8_bits_12 rfl ?_
      refine gw_iconst 13 hC dX8_bits_13 ?_
      refine gw_isub 14 hC dX8_bits_14 ?_
      refine gw_iand 15 hC dX8_bits_15 ?_
      obtain ⟨x2_10, ex2_10, h⟩ := bnd_e h
      refine gw_istore_n 16 [(2, J x2_10), (1, J x1_9)] hC dX8_bits_16 (by decide) ex2_10 rfl ?_
      refine gw_goto 17 4 hC dX8_bits_17 (by decide) ?_
      refine gw_sub [1, 0] rfl ?_
      exact ih _ _ _ h
theorem met_bits {D : MD} {o : Nat} {a1 : Int} {s0 : MS} {res : Int × MS} (h : m_bits a1 s0 = some res) (l : Launch) : GMet l yX8_bits cX8_bits 3 (some .int) 1 (MRp D o) (MK D) (mAd o) [J a1] s0 1 res := by
  refine GMet.of [(0, J a1)] (by decide) (MK_moved D) (Nat.le_of_ble_eq_true rfl) rfl ?_
  intro p e s m args below meth c hC
  have hC : GC p s m args meth c cX8_bits RX8 3 (some .int) (MK D) := hC
  unfold m_bits at h
  refine gw_iconst 0 hC dX8_bits_0 ?_
  obtain ⟨x1_2, ex1_2, h⟩ := bnd_e h
  refine gw_istore_n 1 [(1, J x1_2), (0, J a1)] hC dX8_bits_1 (by decide) ex1_2 rfl ?_
  refine gw_iload_n 2 1 hC dX8_bits_2 rfl ?_
  refine gw_istore_n 3 [(2, J a1), (1, J x1_2), (0, J a1)] hC dX8_bits_3 (by decide) rfl rfl ?_
  refine gw_sub [1, 0] rfl ?_
  refine wm_bits_L4 hC (fun x1_11 s12 h => ?_) FU _ _ _ h
  · refine gw_iload_n 20 0 hC dX8_bits_20 rfl ?_
    exact gw_iret 21 hC dX8_bits_21 h
/-! sayingMany()I -/
noncomputable def m_sayingMany (s0 : MS) : Option (Int × MS) :=
  gd (ok 4 2) <|
  some ((s0 36 (i32 2)), s0)
theorem met_sayingMany {D : MD} {o : Nat} {s0 : MS} {res : Int × MS} (h : m_sayingMany s0 = some res) (l : Launch) : GMet l yX8_sayingMany cX8_sayingMany 1 (some .int) 1 (MRp D o) (MK D) (mAd o) [.ref o] s0 1 res := by
  refine GMet.of [(0, .ref o)] (by decide) (MK_moved D) (Nat.le_of_ble_eq_true rfl) rfl ?_
  intro p e s m args below meth c hC
  have hC : GC p s m args meth c cX8_sayingMany RX8 1 (some .int) (MK D) := hC
  unfold m_sayingMany at h
  refine gw_aload_n 0 0 hC dX8_sayingMany_0 rfl ?_
  refine mg_36 1 hC dX8_sayingMany_1 ?_
  refine gw_iconst 4 hC dX8_sayingMany_4 ?_
  obtain ⟨g1, h⟩ := gd_e h
  refine m_iald 5 36 hC (by decide) rfl g1 dX8_sayingMany_5 ?_
  exact gw_iret 6 hC dX8_sayingMany_6 h
/-! givenOf(II)I -/
noncomputable def m_givenOf (a1 : Int) (a2 : Int) (s0 : MS) : Option (Int × MS) :=
  gd (ok 219 (((8 + (10 * a1)) + 3) + a2)) <|
  some ((s0 48 (i32 (((8 + (10 * a1)) + 3) + a2))), s0)
theorem met_givenOf {D : MD} {o : Nat} {a1 : Int} {a2 : Int} {s0 : MS} {res : Int × MS} (h : m_givenOf a1 a2 s0 = some res) (l : Launch) : GMet l yX8_givenOf cX8_givenOf 3 (some .int) 1 (MRp D o) (MK D) (mAd o) [.ref o, J a1, J a2] s0 1 res := by
  refine GMet.of [(0, .ref o), (1, J a1), (2, J a2)] (by decide) (MK_moved D) (Nat.le_of_ble_eq_true rfl) rfl ?_
  intro p e s m args below meth c hC
  have hC : GC p s m args meth c cX8_givenOf RX8 3 (some .int) (MK D) := hC
  unfold m_givenOf at h
  refine gw_aload_n 0 0 hC dX8_givenOf_0 rfl ?_
  refine mg_48 1 hC dX8_givenOf_1 ?_
  refine gw_bipush 4 hC dX8_givenOf_4 (by decide) ?_
  refine gw_bipush 6 hC dX8_givenOf_6 (by decide) ?_
  refine gw_iload_n 8 1 hC dX8_givenOf_8 rfl ?_
  refine gw_imul 9 hC dX8_givenOf_9 ?_
  refine gw_iadd 10 hC dX8_givenOf_10 ?_
  refine gw_iconst 11 hC dX8_givenOf_11 ?_
  refine gw_iadd 12 hC dX8_givenOf_12 ?_
  refine gw_iload_n 13 2 hC dX8_givenOf_13 rfl ?_
  refine gw_iadd 14 hC dX8_givenOf_14 ?_
  obtain ⟨g3, h⟩ := gd_e h
  refine m_iald 15 48 hC (by decide) rfl g3 dX8_givenOf_15 ?_
  exact gw_iret 16 hC dX8_givenOf_16 h
/-! countAll()I -/
noncomputable def m_countAll_L14 (k37 : Int → Int → MS → Option (Int × MS)) : Nat → Int → Int → Int → MS → Option (Int × MS)
  | 0, _, _, _, _ => none
  | n + 1, x1_11, x2_12, x3_13, s14 =>
    Option.bind (m_verbMany s14) fun z18 =>
    if i32 z18.1 ≤ i32 x3_13 then
      k37 x1_11 x2_12 z18.2
    else
      Option.bind (m_givenOf x2_12 x3_13 z18.2) fun z20 =>
      bnd (x1_11 + z20.1) fun x1_21 =>
      bnd (x3_13 + 1) fun x3_22 =>
      m_countAll_L14 k37 n x1_21 x2_12 x3_22 z20.2
noncomputable def m_countAll_L4 (k43 : Int → MS → Option (Int × MS)) : Nat → Int → Int → MS → Option (Int × MS)
  | 0, _, _, _ => none
  | n + 1, x1_3, x2_4, s5 =>
    Option.bind (m_sayingMany s5) fun z8 =>
    if i32 z8.1 ≤ i32 x2_4 then
      k43 x1_3 z8.2
    else
      bnd 0 fun x3_10 =>
      m_countAll_L14
        (fun (x1_23 : Int) (x2_24 : Int) (s25 : MS) =>
          bnd (x2_24 + 1) fun x2_26 =>
          m_countAll_L4 k43 n x1_23 x2_26 s25)
        FU x1_3 x2_4 x3_10 z8.2
noncomputable def m_countAll (s0 : MS) : Option (Int × MS) :=
  bnd 0 fun x1_1 =>
  bnd 0 fun x2_2 =>
  m_countAll_L4
    (fun (x1_27 : Int) (s28 : MS) =>
      some (x1_27, s28))
    FU x1_1 x2_2 s0
theorem wm_countAll_L14 {p : Program} {l : Launch} {e : Env} {s : State} {m : MethodId} {args : Array Value} {below : List Frame} {meth : Method} {c : Code} {D : MD} {o : Nat} {res : Int × MS} {k37 : Int → Int → MS → Option (Int × MS)} (hC : GC p s m args meth c cX8_countAll RX8 4 (some .int) (MK D)) (hk37 : ∀ (x1_15 : Int) (x2_16 : Int) (s17 : MS), k37 x1_15 x2_16 s17 = some res → GW p l e (rmd 2) s m args below meth c 4 (mAd o) (MRp D o) (MK D) 1 res s17 37 [(0, .ref o), (1, J x1_15), (2, J x2_16)] []) : ∀ (n : Nat) (x1_11 : Int) (x2_12 : Int) (x3_13 : Int) (s14 : MS), m_countAll_L14 k37 n x1_11 x2_12 x3_13 s14 = some res → GW p l e (rmd 2) s m args below meth c 4 (mAd o) (MRp D o) (MK D) 1 res s14 14 [(0, .ref o), (1, J x1_11), (2, J x2_12), (3, J x3_13)] [] := by
  intro n
  induction n with
  | zero =>
    intro x1_11 x2_12 x3_13 s14 h
    cases h
  | succ n ih =>
    intro x1_11 x2_12 x3_13 s14 h
    rw [m_countAll_L14] at h
    refine gw_iload_n 14 3 hC dX8_countAll_14 rfl ?_
    refine gw_aload_n 15 0 hC dX8_countAll_15 rfl ?_
    obtain ⟨z18, ez18, h⟩ := opt_e h
    refine gw_callV (As := []) (rest := [J x3_13]) (st' := [J z18.1, J x3_13]) 16 0 hC (met_verbMany ez18 l) (lw_V q2259 q2261 qs92 q161 q2262) (by decide +kernel) (by decide) (m_recv hC) rfl rfl (Nat.le_of_ble_eq_true rfl) dX8_countAll_16 rfl ?_
    refine gw_icmp_ge 19 37 hC dX8_countAll_19 (by decide) (fun c19 => ?_) (fun c19 => ?_)
    · replace h := if_t h c19
      refine gw_sub [0, 1, 2] rfl ?_
      exact hk37 _ _ _ h
    · replace h := if_f h c19
      refine gw_iload_n 22 1 hC dX8_countAll_22 rfl ?_
      refine gw_aload_n 23 0 hC dX8_countAll_23 rfl ?_
      refine gw_iload_n 24 2 hC dX8_countAll_24 rfl ?_
      refine gw_iload_n 25 3 hC dX8_countAll_25 rfl ?_
      obtain ⟨z20, ez20, h⟩ := opt_e h
      refine gw_callV (As := [J x2_12, J x3_13]) (rest := [J x1_11]) (st' := [J z20.1, J x1_11]) 26 2 hC (met_givenOf ez20 l) (lw_V q2282 q2284 qs97 q161 q2285) (by decide +kernel) (by decide) (m_recv hC) rfl rfl (Nat.le_of_ble_eq_true rfl) dX8_countAll_26 rfl ?_
      refine gw_iadd 29 hC dX8_countAll_29 ?_
      obtain ⟨x1_21, ex1_21, h⟩ := bnd_e h
      refine gw_istore_n 30 [(1, J x1_21), (0, .ref o), (2, J x2_12), (3, J x3_13)] hC dX8_countAll_30 (by decide) ex1_21 rfl ?_
      obtain ⟨x3_22, ex3_22, h⟩ := bnd_e h
      refine gw_iinc 31 3 [(3, J x3_22), (1, J x1_21), (0, .ref o), (2, J x2_12)] hC dX8_countAll_31 rfl ex3_22 (by decide) rfl ?_
      refine gw_goto 34 14 hC dX8_countAll_34 (by decide) ?_
      refine gw_sub [2, 1, 3, 0] rfl ?_
      exact ih _ _ _ _ h
theorem wm_countAll_L4 {p : Program} {l : Launch} {e : Env} {s : State} {m : MethodId} {args : Array Value} {below : List Frame} {meth : Method} {c : Code} {D : MD} {o : Nat} {res : Int × MS} {k43 : Int → MS → Option (Int × MS)} (hC : GC p s m args meth c cX8_countAll RX8 4 (some .int) (MK D)) (hk43 : ∀ (x1_6 : Int) (s7 : MS), k43 x1_6 s7 = some res → GW p l e (rmd 2) s m args below meth c 4 (mAd o) (MRp D o) (MK D) 1 res s7 43 [(1, J x1_6)] []) : ∀ (n : Nat) (x1_3 : Int) (x2_4 : Int) (s5 : MS), m_countAll_L4 k43 n x1_3 x2_4 s5 = some res → GW p l e (rmd 2) s m args below meth c 4 (mAd o) (MRp D o) (MK D) 1 res s5 4 [(0, .ref o), (1, J x1_3), (2, J x2_4)] [] := by
  intro n
  induction n with
  | zero =>
    intro x1_3 x2_4 s5 h
    cases h
  | succ n ih =>
    intro x1_3 x2_4 s5 h
    rw [m_countAll_L4] at h
    refine gw_iload_n 4 2 hC dX8_countAll_4 rfl ?_
    refine gw_aload_n 5 0 hC dX8_countAll_5 rfl ?_
    obtain ⟨z8, ez8, h⟩ := opt_e h
    refine gw_callV (As := []) (rest := [J x2_4]) (st' := [J z8.1, J x2_4]) 6 0 hC (met_sayingMany ez8 l) (lw_V q2278 q2280 qs96 q161 q2281) (by decide +kernel) (by decide) (m_recv hC) rfl rfl (Nat.le_of_ble_eq_true rfl) dX8_countAll_6 rfl ?_
    refine gw_icmp_ge 9 43 hC dX8_countAll_9 (by decide) (fun c9 => ?_) (fun c9 => ?_)
    · replace h := if_t h c9
      refine gw_sub [1] rfl ?_
      exact hk43 _ _ h
    · replace h := if_f h c9
      refine gw_iconst 12 hC dX8_countAll_12 ?_
      obtain ⟨x3_10, ex3_10, h⟩ := bnd_e h
      refine gw_istore_n 13 [(3, J x3_10), (0, .ref o), (1, J x1_3), (2, J x2_4)] hC dX8_countAll_13 (by decide) ex3_10 rfl ?_
      refine gw_sub [1, 2, 3, 0] rfl ?_
      refine wm_countAll_L14 hC (fun x1_23 x2_24 s25 h => ?_) FU _ _ _ _ h
      · obtain ⟨x2_26, ex2_26, h⟩ := bnd_e h
        refine gw_iinc 37 2 [(2, J x2_26), (0, .ref o), (1, J x1_23)] hC dX8_countAll_37 rfl ex2_26 (by decide) rfl ?_
        refine gw_goto 40 4 hC dX8_countAll_40 (by decide) ?_
        refine gw_sub [1, 2, 0] rfl ?_
        exact ih _ _ _ h
theorem met_countAll {D : MD} {o : Nat} {s0 : MS} {res : Int × MS} (h : m_countAll s0 = some res) (l : Launch) : GMet l yX8_countAll cX8_countAll 4 (some .int) 2 (MRp D o) (MK D) (mAd o) [.ref o] s0 1 res := by
  refine GMet.of [(0, .ref o)] (by decide) (MK_moved D) (Nat.le_of_ble_eq_true rfl) rfl ?_
  intro p e s m args below meth c hC
  have hC : GC p s m args meth c cX8_countAll RX8 4 (some .int) (MK D) := hC
  unfold m_countAll at h
  refine gw_iconst 0 hC dX8_countAll_0 ?_
  obtain ⟨x1_1, ex1_1, h⟩ := bnd_e h
  refine gw_istore_n 1 [(1, J x1_1), (0, .ref o)] hC dX8_countAll_1 (by decide) ex1_1 rfl ?_
  refine gw_iconst 2 hC dX8_countAll_2 ?_
  obtain ⟨x2_2, ex2_2, h⟩ := bnd_e h
  refine gw_istore_n 3 [(2, J x2_2), (1, J x1_1), (0, .ref o)] hC dX8_countAll_3 (by decide) ex2_2 rfl ?_
  refine gw_sub [2, 1, 0] rfl ?_
  refine wm_countAll_L4 hC (fun x1_27 s28 h => ?_) FU _ _ _ h
  · refine gw_iload_n 43 0 hC dX8_countAll_43 rfl ?_
    exact gw_iret 44 hC dX8_countAll_44 h
/-! has(I)I -/
noncomputable def m_has (a1 : Int) (s0 : MS) : Option (Int × MS) :=
  bnd (fun (x1_2 : Int) (s3 : MS) =>
      gd (ok 4 (1 + x1_2)) <|
      some ((s3 36 (i32 (1 + x1_2))), s3)) fun j5 =>
  if i32 a1 = 0 then
    gd (ok 4 2) <|
    some ((s0 35 (i32 2)), s0)
  else
  if i32 a1 = 1 then
    j5 a1 s0
  else
  if i32 a1 = 2 then
    j5 a1 s0
  else
  if i32 a1 = 3 then
    gd (ok 219 0) <|
    some ((s0 48 (i32 0)), s0)
  else
  if i32 a1 = 4 then
    Option.bind (m_verbMany s0) fun z13 =>
    Option.bind (m_sack z13.2) fun z14 =>
    Option.bind (m_bits z14.1 z14.2) fun z15 =>
    some ((z13.1 - z15.1), z15.2)
  else
  if i32 a1 = 5 then
    Option.bind (m_countAll s0) fun z17 =>
    some (z17.1, z17.2)
  else
  if i32 a1 = 6 then
    gd (ok 219 68) <|
    some ((s0 48 (i32 68)), s0)
  else
  if i32 a1 = 7 then
    some ((s0 64 0), s0)
  else
  if i32 a1 = 8 then
    some ((s0 70 0), s0)
  else
    some ((-1), s0)
theorem met_has {D : MD} {o : Nat} {a1 : Int} {s0 : MS} {res : Int × MS} (h : m_has a1 s0 = some res) (l : Launch) : GMet l yX8_has cX8_has 2 (some .int) 3 (MRp D o) (MK D) (mAd o) [.ref o, J a1] s0 1 res := by
  refine GMet.of [(0, .ref o), (1, J a1)] (by decide) (MK_moved D) (Nat.le_of_ble_eq_true rfl) rfl ?_
  intro p e s m args below meth c hC
  have hC : GC p s m args meth c cX8_has RX8 2 (some .int) (MK D) := hC
  unfold m_has at h
  refine gw_iload_n 0 1 hC dX8_has_0 rfl ?_
  obtain ⟨j5, ej5, h⟩ := bnd_e h
  have hj5 : ∀ (x1_2 : Int) (s3 : MS), j5 x1_2 s3 = some res → GW p l e (rmd 3) s m args below meth c 2 (mAd o) (MRp D o) (MK D) 1 res s3 59 [(0, .ref o), (1, J x1_2)] [] := by
    clear h
    intro x1_2 s3 h
    subst ej5
    refine gw_aload_n 59 0 hC dX8_has_59 rfl ?_
    refine mg_36 60 hC dX8_has_60 ?_
    refine gw_iconst 63 hC dX8_has_63 ?_
    refine gw_iload_n 64 1 hC dX8_has_64 rfl ?_
    refine gw_iadd 65 hC dX8_has_65 ?_
    obtain ⟨g4, h⟩ := gd_e h
    refine m_iald 66 36 hC (by decide) rfl g4 dX8_has_66 ?_
    exact gw_iret 67 hC dX8_has_67 h
  by_cases c6 : i32 a1 = 0
  · replace h := if_t h c6
    refine gw_tableIn 1 52 0 hC dX8_has_1 c6 (by decide) (by decide) rfl (by decide) ?_
    refine gw_aload_n 52 0 hC dX8_has_52 rfl ?_
    refine mg_35 53 hC dX8_has_53 ?_
    refine gw_iconst 56 hC dX8_has_56 ?_
    obtain ⟨g7, h⟩ := gd_e h
    refine m_iald 57 35 hC (by decide) rfl g7 dX8_has_57 ?_
    exact gw_iret 58 hC dX8_has_58 h
  replace h := if_f h c6
  by_cases c8 : i32 a1 = 1
  · replace h := if_t h c8
    refine gw_tableIn 1 59 1 hC dX8_has_1 c8 (by decide) (by decide) rfl (by decide) ?_
    refine gw_sub [0, 1] rfl ?_
    exact hj5 _ _ h
  replace h := if_f h c8
  by_cases c9 : i32 a1 = 2
  · replace h := if_t h c9
    refine gw_tableIn 1 59 2 hC dX8_has_1 c9 (by decide) (by decide) rfl (by decide) ?_
    refine gw_sub [0, 1] rfl ?_
    exact hj5 _ _ h
  replace h := if_f h c9
  by_cases c10 : i32 a1 = 3
  · replace h := if_t h c10
    refine gw_tableIn 1 68 3 hC dX8_has_1 c10 (by decide) (by decide) rfl (by decide) ?_
    refine gw_aload_n 68 0 hC dX8_has_68 rfl ?_
    refine mg_48 69 hC dX8_has_69 ?_
    refine gw_iconst 72 hC dX8_has_72 ?_
    obtain ⟨g11, h⟩ := gd_e h
    refine m_iald 73 48 hC (by decide) rfl g11 dX8_has_73 ?_
    exact gw_iret 74 hC dX8_has_74 h
  replace h := if_f h c10
  by_cases c12 : i32 a1 = 4
  · replace h := if_t h c12
    refine gw_tableIn 1 75 4 hC dX8_has_1 c12 (by decide) (by decide) rfl (by decide) ?_
    refine gw_aload_n 75 0 hC dX8_has_75 rfl ?_
    obtain ⟨z13, ez13, h⟩ := opt_e h
    refine gw_callV (As := []) (rest := []) (st' := [J z13.1]) 76 0 hC (met_verbMany ez13 l) (lw_V q2259 q2261 qs92 q161 q2262) (by decide +kernel) (by decide) (m_recv hC) rfl rfl (Nat.le_of_ble_eq_true rfl) dX8_has_76 rfl ?_
    refine gw_aload_n 79 0 hC dX8_has_79 rfl ?_
    obtain ⟨z14, ez14, h⟩ := opt_e h
    refine gw_callV (As := []) (rest := [J z13.1]) (st' := [J z14.1, J z13.1]) 80 0 hC (met_sack ez14 l) (lw_V q2263 q2265 qs93 q161 q2266) (by decide +kernel) (by decide) (m_recv hC) rfl rfl (Nat.le_of_ble_eq_true rfl) dX8_has_80 rfl ?_
    obtain ⟨z15, ez15, h⟩ := opt_e h
    refine gw_callS (As := [J z14.1]) (rest := [J z13.1]) (st' := [J z15.1, J z13.1]) 83 1 hC (met_bits ez15 l) (lw_S q2271 q2272 q161 q2273) (by decide +kernel) (by decide) rfl rfl (Nat.le_of_ble_eq_true rfl) dX8_has_83 rfl ?_
    refine gw_isub 86 hC dX8_has_86 ?_
    exact gw_iret 87 hC dX8_has_87 h
  replace h := if_f h c12
  by_cases c16 : i32 a1 = 5
  · replace h := if_t h c16
    refine gw_tableIn 1 88 5 hC dX8_has_1 c16 (by decide) (by decide) rfl (by decide) ?_
    refine gw_aload_n 88 0 hC dX8_has_88 rfl ?_
    obtain ⟨z17, ez17, h⟩ := opt_e h
    refine gw_callV (As := []) (rest := []) (st' := [J z17.1]) 89 0 hC (met_countAll ez17 l) (lw_V q2274 q2276 qs95 q161 q2277) (by decide +kernel) (by decide) (m_recv hC) rfl rfl (Nat.le_of_ble_eq_true rfl) dX8_has_89 rfl ?_
    exact gw_iret 92 hC dX8_has_92 h
  replace h := if_f h c16
  by_cases c18 : i32 a1 = 6
  · replace h := if_t h c18
    refine gw_tableIn 1 93 6 hC dX8_has_1 c18 (by decide) (by decide) rfl (by decide) ?_
    refine gw_aload_n 93 0 hC dX8_has_93 rfl ?_
    refine mg_48 94 hC dX8_has_94 ?_
    refine gw_bipush 97 hC dX8_has_97 (by decide) ?_
    obtain ⟨g19, h⟩ := gd_e h
    refine m_iald 99 48 hC (by decide) rfl g19 dX8_has_99 ?_
    exact gw_iret 100 hC dX8_has_100 h
  replace h := if_f h c18
  by_cases c20 : i32 a1 = 7
  · replace h := if_t h c20
    refine gw_tableIn 1 101 7 hC dX8_has_1 c20 (by decide) (by decide) rfl (by decide) ?_
    refine gw_aload_n 101 0 hC dX8_has_101 rfl ?_
    refine mg_64 102 hC dX8_has_102 ?_
    exact gw_iret 105 hC dX8_has_105 h
  replace h := if_f h c20
  by_cases c21 : i32 a1 = 8
  · replace h := if_t h c21
    refine gw_tableIn 1 106 8 hC dX8_has_1 c21 (by decide) (by decide) rfl (by decide) ?_
    refine gw_aload_n 106 0 hC dX8_has_106 rfl ?_
    refine mg_70 107 hC dX8_has_107 ?_
    exact gw_iret 110 hC dX8_has_110 h
  replace h := if_f h c21
  refine gw_tableOut 1 111 hC dX8_has_1 (by omega) (by decide) ?_
  refine gw_iconst 111 hC dX8_has_111 ?_
  exact gw_iret 112 hC dX8_has_112 h
/-! letter(III)I -/
noncomputable def m_letter_L67 (k88 : Int → Int → Int → MS → Option (Int × MS)) : Nat → Int → Int → Int → Int → MS → Option (Int × MS)
  | 0, _, _, _, _, _ => none
  | n + 1, x3_14, x4_15, x6_16, x7_17, s18 =>
    if i64 x7_17 ≤ i64 0 then
      k88 x3_14 x4_15 x6_16 s18
    else
      bnd (x6_16 + 1) fun x6_24 =>
      bnd (ldiv x7_17 27) fun x7_25 =>
      m_letter_L67 k88 n x3_14 x4_15 x6_24 x7_25 s18
noncomputable def m_letter_L102 (k122 : Int → MS → Option (Int × MS)) : Nat → Int → Int → Int → MS → Option (Int × MS)
  | 0, _, _, _, _ => none
  | n + 1, x3_32, x4_33, x7_34, s35 =>
    if i32 x7_34 ≤ i32 x3_32 then
      k122 x4_33 s35
    else
      bnd (ldiv x4_33 27) fun x4_39 =>
      bnd (x7_34 + (-1)) fun x7_40 =>
      m_letter_L102 k122 n x3_32 x4_39 x7_40 s35
noncomputable def m_letter (a1 : Int) (a2 : Int) (a3 : Int) (s0 : MS) : Option (Int × MS) :=
  Option.bind (m_isIn (i32 a1) 0 1 s0) fun z4 =>
  if i32 z4.1 = 0 then
    some ((-1), z4.2)
  else
    gd (ok 4 (2 + a1)) <|
    Option.bind (m_isIn (i32 a2) 0 (i32 ((z4.2 36 (i32 (2 + a1))) - 1)) z4.2) fun z7 =>
    if i32 z7.1 = 0 then
      some ((-1), z7.2)
    else
      Option.bind (m_isIn (i32 a3) 0 5 z7.2) fun z9 =>
      if i32 z9.1 = 0 then
        some ((-1), z9.2)
      else
        gd (ok 32 ((16 + (8 * a1)) + a2)) <|
        bnd (z9.2 37 (i32 ((16 + (8 * a1)) + a2))) fun x4_12 =>
        bnd 0 fun x6_13 =>
        m_letter_L67
          (fun (x3_26 : Int) (x4_27 : Int) (x6_28 : Int) (s29 : MS) =>
            if i32 x3_26 < i32 x6_28 then
              bnd (x6_28 - 1) fun x7_31 =>
              m_letter_L102
                (fun (x4_41 : Int) (s42 : MS) =>
                  some ((lrem x4_41 27), s42))
                FU x3_26 x4_27 x7_31 s29
            else
              some (0, s29))
          FU a3 x4_12 x6_13 x4_12 z9.2
theorem wm_letter_L67 {p : Program} {l : Launch} {e : Env} {s : State} {m : MethodId} {args : Array Value} {below : List Frame} {meth : Method} {c : Code} {D : MD} {o : Nat} {res : Int × MS} {k88 : Int → Int → Int → MS → Option (Int × MS)} (hC : GC p s m args meth c cX8_letter RX8 9 (some .int) (MK D)) (hk88 : ∀ (x3_19 : Int) (x4_20 : Int) (x6_21 : Int) (s22 : MS), k88 x3_19 x4_20 x6_21 s22 = some res → GW p l e (rmd 2) s m args below meth c 9 (mAd o) (MRp D o) (MK D) 1 res s22 88 [(3, J x3_19), (4, Lg x4_20), (6, J x6_21)] []) : ∀ (n : Nat) (x3_14 : Int) (x4_15 : Int) (x6_16 : Int) (x7_17 : Int) (s18 : MS), m_letter_L67 k88 n x3_14 x4_15 x6_16 x7_17 s18 = some res → GW p l e (rmd 2) s m args below meth c 9 (mAd o) (MRp D o) (MK D) 1 res s18 67 [(3, J x3_14), (4, Lg x4_15), (6, J x6_16), (7, Lg x7_17)] [] := by
  intro n
  induction n with
  | zero =>
    intro x3_14 x4_15 x6_16 x7_17 s18 h
    cases h
  | succ n ih =>
    intro x3_14 x4_15 x6_16 x7_17 s18 h
    rw [m_letter_L67] at h
    refine gw_lload 67 3 hC dX8_letter_67 rfl ?_
    refine gw_lconst (v := 0) 69 hC dX8_letter_69 (by decide) ?_
    refine gw_lcmp_le 70 88 hC dX8_letter_70 dX8_letter_71 (by decide) (fun c23 => ?_) (fun c23 => ?_)
    · replace h := if_t h c23
      refine gw_sub [0, 1, 2] rfl ?_
      exact hk88 _ _ _ _ h
    · replace h := if_f h c23
      obtain ⟨x6_24, ex6_24, h⟩ := bnd_e h
      refine gw_iinc 74 2 [(6, J x6_24), (3, J x3_14), (4, Lg x4_15), (7, Lg x7_17)] hC dX8_letter_74 rfl ex6_24 (by decide) rfl ?_
      refine gw_lload 77 3 hC dX8_letter_77 rfl ?_
      refine gw_ldc2 (v := 27) 79 hC dX8_letter_79 q2154 (by decide) ?_
      refine gw_ldiv 82 hC dX8_letter_82 (by decide) ?_
      obtain ⟨x7_25, ex7_25, h⟩ := bnd_e h
      refine gw_lstore 83 [(7, Lg x7_25), (6, J x6_24), (3, J x3_14), (4, Lg x4_15)] hC dX8_letter_83 (by decide) ex7_25 rfl ?_
      refine gw_goto 85 67 hC dX8_letter_85 (by decide) ?_
      refine gw_sub [2, 3, 1, 0] rfl ?_
      exact ih _ _ _ _ _ h
theorem wm_letter_L102 {p : Program} {l : Launch} {e : Env} {s : State} {m : MethodId} {args : Array Value} {below : List Frame} {meth : Method} {c : Code} {D : MD} {o : Nat} {res : Int × MS} {k122 : Int → MS → Option (Int × MS)} (hC : GC p s m args meth c cX8_letter RX8 9 (some .int) (MK D)) (hk122 : ∀ (x4_36 : Int) (s37 : MS), k122 x4_36 s37 = some res → GW p l e (rmd 2) s m args below meth c 9 (mAd o) (MRp D o) (MK D) 1 res s37 122 [(4, Lg x4_36)] []) : ∀ (n : Nat) (x3_32 : Int) (x4_33 : Int) (x7_34 : Int) (s35 : MS), m_letter_L102 k122 n x3_32 x4_33 x7_34 s35 = some res → GW p l e (rmd 2) s m args below meth c 9 (mAd o) (MRp D o) (MK D) 1 res s35 102 [(3, J x3_32), (4, Lg x4_33), (7, J x7_34)] [] := by
  intro n
  induction n with
  | zero =>
    intro x3_32 x4_33 x7_34 s35 h
    cases h
  | succ n ih =>
    intro x3_32 x4_33 x7_34 s35 h
    rw [m_letter_L102] at h
    refine gw_iload 102 2 hC dX8_letter_102 rfl ?_
    refine gw_iload_n 104 0 hC dX8_letter_104 rfl ?_
    refine gw_icmp_le 105 122 hC dX8_letter_105 (by decide) (fun c38 => ?_) (fun c38 => ?_)
    · replace h := if_t h c38
      refine gw_sub [1] rfl ?_
      exact hk122 _ _ h
    · replace h := if_f h c38
      refine gw_lload 108 1 hC dX8_letter_108 rfl ?_
      refine gw_ldc2 (v := 27) 110 hC dX8_letter_110 q2154 (by decide) ?_
      refine gw_ldiv 113 hC dX8_letter_113 (by decide) ?_
      obtain ⟨x4_39, ex4_39, h⟩ := bnd_e h
      refine gw_lstore 114 [(4, Lg x4_39), (3, J x3_32), (7, J x7_34)] hC dX8_letter_114 (by decide) ex4_39 rfl ?_
      obtain ⟨x7_40, ex7_40, h⟩ := bnd_e h
      refine gw_iinc 116 2 [(7, J x7_40), (4, Lg x4_39), (3, J x3_32)] hC dX8_letter_116 rfl ex7_40 (by decide) rfl ?_
      refine gw_goto 119 102 hC dX8_letter_119 (by decide) ?_
      refine gw_sub [2, 1, 0] rfl ?_
      exact ih _ _ _ _ h
theorem met_letter {D : MD} {o : Nat} {a1 : Int} {a2 : Int} {a3 : Int} {s0 : MS} {res : Int × MS} (h : m_letter a1 a2 a3 s0 = some res) (l : Launch) : GMet l yX8_letter cX8_letter 9 (some .int) 2 (MRp D o) (MK D) (mAd o) [.ref o, J a1, J a2, J a3] s0 1 res := by
  refine GMet.of [(0, .ref o), (1, J a1), (2, J a2), (3, J a3)] (by decide) (MK_moved D) (Nat.le_of_ble_eq_true rfl) rfl ?_
  intro p e s m args below meth c hC
  have hC : GC p s m args meth c cX8_letter RX8 9 (some .int) (MK D) := hC
  unfold m_letter at h
  refine gw_iload_n 0 1 hC dX8_letter_0 rfl ?_
  refine gw_i2l 1 hC dX8_letter_1 ?_
  refine gw_lconst (v := 0) 2 hC dX8_letter_2 (by decide) ?_
  refine gw_lconst (v := 1) 3 hC dX8_letter_3 (by decide) ?_
  obtain ⟨z4, ez4, h⟩ := opt_e h
  refine gw_callS (As := [Lg (i32 a1), Lg 0, Lg 1]) (rest := []) (st' := [J z4.1]) 4 3 hC (met_isIn ez4 l) (lw_S q2123 q2124 q161 q2125) (by decide +kernel) (by decide) rfl rfl (Nat.le_of_ble_eq_true rfl) dX8_letter_4 rfl ?_
  refine gw_if_eq 7 42 hC dX8_letter_7 (by decide) (fun c5 => ?_) (fun c5 => ?_)
  · replace h := if_t h c5
    refine gw_iconst 42 hC dX8_letter_42 ?_
    exact gw_iret 43 hC dX8_letter_43 h
  · replace h := if_f h c5
    refine gw_iload_n 10 2 hC dX8_letter_10 rfl ?_
    refine gw_i2l 11 hC dX8_letter_11 ?_
    refine gw_lconst (v := 0) 12 hC dX8_letter_12 (by decide) ?_
    refine gw_aload_n 13 0 hC dX8_letter_13 rfl ?_
    refine mg_36 14 hC dX8_letter_14 ?_
    refine gw_iconst 17 hC dX8_letter_17 ?_
    refine gw_iload_n 18 1 hC dX8_letter_18 rfl ?_
    refine gw_iadd 19 hC dX8_letter_19 ?_
    obtain ⟨g6, h⟩ := gd_e h
    refine m_iald 20 36 hC (by decide) rfl g6 dX8_letter_20 ?_
    refine gw_iconst 21 hC dX8_letter_21 ?_
    refine gw_isub 22 hC dX8_letter_22 ?_
    refine gw_i2l 23 hC dX8_letter_23 ?_
    obtain ⟨z7, ez7, h⟩ := opt_e h
    refine gw_callS (As := [Lg (i32 a2), Lg 0, Lg (i32 ((z4.2 36 (i32 (2 + a1))) - 1))]) (rest := []) (st' := [J z7.1]) 24 3 hC (met_isIn ez7 l) (lw_S q2123 q2124 q161 q2125) (by decide +kernel) (by decide) rfl rfl (Nat.le_of_ble_eq_true rfl) dX8_letter_24 rfl ?_
    refine gw_if_eq 27 42 hC dX8_letter_27 (by decide) (fun c8 => ?_) (fun c8 => ?_)
    · replace h := if_t h c8
      refine gw_iconst 42 hC dX8_letter_42 ?_
      exact gw_iret 43 hC dX8_letter_43 h
    · replace h := if_f h c8
      refine gw_iload_n 30 3 hC dX8_letter_30 rfl ?_
      refine gw_i2l 31 hC dX8_letter_31 ?_
      refine gw_lconst (v := 0) 32 hC dX8_letter_32 (by decide) ?_
      refine gw_ldc2 (v := 5) 33 hC dX8_letter_33 q2290 (by decide) ?_
      obtain ⟨z9, ez9, h⟩ := opt_e h
      refine gw_callS (As := [Lg (i32 a3), Lg 0, Lg 5]) (rest := []) (st' := [J z9.1]) 36 3 hC (met_isIn ez9 l) (lw_S q2123 q2124 q161 q2125) (by decide +kernel) (by decide) rfl rfl (Nat.le_of_ble_eq_true rfl) dX8_letter_36 rfl ?_
      refine gw_if_ne 39 44 hC dX8_letter_39 (by decide) (fun c10 => ?_) (fun c10 => ?_)
      · replace h := if_f h c10
        refine gw_aload_n 44 0 hC dX8_letter_44 rfl ?_
        refine mg_37 45 hC dX8_letter_45 ?_
        refine gw_bipush 48 hC dX8_letter_48 (by decide) ?_
        refine gw_bipush 50 hC dX8_letter_50 (by decide) ?_
        refine gw_iload_n 52 1 hC dX8_letter_52 rfl ?_
        refine gw_imul 53 hC dX8_letter_53 ?_
        refine gw_iadd 54 hC dX8_letter_54 ?_
        refine gw_iload_n 55 2 hC dX8_letter_55 rfl ?_
        refine gw_iadd 56 hC dX8_letter_56 ?_
        obtain ⟨g11, h⟩ := gd_e h
        refine m_lald 57 37 hC (by decide) rfl g11 dX8_letter_57 ?_
        obtain ⟨x4_12, ex4_12, h⟩ := bnd_e h
        refine gw_lstore 58 [(4, Lg x4_12), (0, .ref o), (1, J a1), (2, J a2), (3, J a3)] hC dX8_letter_58 (by decide) ex4_12 rfl ?_
        refine gw_iconst 60 hC dX8_letter_60 ?_
        obtain ⟨x6_13, ex6_13, h⟩ := bnd_e h
        refine gw_istore 61 [(6, J x6_13), (4, Lg x4_12), (0, .ref o), (1, J a1), (2, J a2), (3, J a3)] hC dX8_letter_61 (by decide) ex6_13 rfl ?_
        refine gw_lload 63 1 hC dX8_letter_63 rfl ?_
        refine gw_lstore 65 [(7, Lg x4_12), (6, J x6_13), (4, Lg x4_12), (0, .ref o), (1, J a1), (2, J a2), (3, J a3)] hC dX8_letter_65 (by decide) rfl rfl ?_
        refine gw_sub [6, 2, 1, 0] rfl ?_
        refine wm_letter_L67 hC (fun x3_26 x4_27 x6_28 s29 h => ?_) FU _ _ _ _ _ h
        · refine gw_iload_n 88 0 hC dX8_letter_88 rfl ?_
          refine gw_iload 89 2 hC dX8_letter_89 rfl ?_
          refine gw_icmp_lt 91 96 hC dX8_letter_91 (by decide) (fun c30 => ?_) (fun c30 => ?_)
          · replace h := if_t h c30
            refine gw_iload 96 2 hC dX8_letter_96 rfl ?_
            refine gw_iconst 98 hC dX8_letter_98 ?_
            refine gw_isub 99 hC dX8_letter_99 ?_
            obtain ⟨x7_31, ex7_31, h⟩ := bnd_e h
            refine gw_istore 100 [(7, J x7_31), (3, J x3_26), (4, Lg x4_27), (6, J x6_28)] hC dX8_letter_100 (by decide) ex7_31 rfl ?_
            refine gw_sub [1, 2, 0] rfl ?_
            refine wm_letter_L102 hC (fun x4_41 s42 h => ?_) FU _ _ _ _ h
            · refine gw_lload 122 0 hC dX8_letter_122 rfl ?_
              refine gw_ldc2 (v := 27) 124 hC dX8_letter_124 q2154 (by decide) ?_
              refine gw_lrem 127 hC dX8_letter_127 (by decide) ?_
              refine gw_l2i 128 hC dX8_letter_128 ?_
              exact gw_iret 129 hC dX8_letter_129 h
          · replace h := if_f h c30
            refine gw_iconst 94 hC dX8_letter_94 ?_
            exact gw_iret 95 hC dX8_letter_95 h
      · replace h := if_t h c10
        refine gw_iconst 42 hC dX8_letter_42 ?_
        exact gw_iret 43 hC dX8_letter_43 h
/-! isSaying(I)Z -/
noncomputable def m_isSaying (a1 : Int) (s0 : MS) : Option (Int × MS) :=
  Option.bind (m_sayingMany s0) fun z2 =>
  Option.bind (m_isIn (i32 a1) 0 (i32 (z2.1 - 1)) z2.2) fun z3 =>
  gd (bz z3.1) <|
  some (z3.1, z3.2)
theorem met_isSaying {D : MD} {o : Nat} {a1 : Int} {s0 : MS} {res : Int × MS} (h : m_isSaying a1 s0 = some res) (l : Launch) : GMet l yX8_isSaying cX8_isSaying 2 (some .boolean) 2 (MRp D o) (MK D) (mAd o) [.ref o, J a1] s0 1 res := by
  refine GMet.of [(0, .ref o), (1, J a1)] (by decide) (MK_moved D) (Nat.le_of_ble_eq_true rfl) rfl ?_
  intro p e s m args below meth c hC
  have hC : GC p s m args meth c cX8_isSaying RX8 2 (some .boolean) (MK D) := hC
  unfold m_isSaying at h
  refine gw_iload_n 0 1 hC dX8_isSaying_0 rfl ?_
  refine gw_i2l 1 hC dX8_isSaying_1 ?_
  refine gw_lconst (v := 0) 2 hC dX8_isSaying_2 (by decide) ?_
  refine gw_aload_n 3 0 hC dX8_isSaying_3 rfl ?_
  obtain ⟨z2, ez2, h⟩ := opt_e h
  refine gw_callV (As := []) (rest := [Lg 0, Lg (i32 a1)]) (st' := [J z2.1, Lg 0, Lg (i32 a1)]) 4 0 hC (met_sayingMany ez2 l) (lw_V q2278 q2280 qs96 q161 q2281) (by decide +kernel) (by decide) (m_recv hC) rfl rfl (Nat.le_of_ble_eq_true rfl) dX8_isSaying_4 rfl ?_
  refine gw_iconst 7 hC dX8_isSaying_7 ?_
  refine gw_isub 8 hC dX8_isSaying_8 ?_
  refine gw_i2l 9 hC dX8_isSaying_9 ?_
  obtain ⟨z3, ez3, h⟩ := opt_e h
  refine gw_callS (As := [Lg (i32 a1), Lg 0, Lg (i32 (z2.1 - 1))]) (rest := []) (st' := [J z3.1]) 10 3 hC (met_isIn ez3 l) (lw_S q2123 q2124 q161 q2125) (by decide +kernel) (by decide) rfl rfl (Nat.le_of_ble_eq_true rfl) dX8_isSaying_10 rfl ?_
  obtain ⟨g4, h⟩ := gd_e h
  exact gw_zret 13 hC dX8_isSaying_13 g4 h
/-! qPuts(J)V -/
noncomputable def m_qPuts (a1 : Int) (s0 : MS) : Option (Int × MS) :=
  gd (ok 1700 (s0 103 0)) <|
  bnd (up s0 102 (i32 (s0 103 0)) a1) fun s3 =>
  bnd (up s3 103 0 ((s3 103 0) + 1)) fun s4 =>
  some (0, s4)
theorem met_qPuts {D : MD} {o : Nat} {a1 : Int} {s0 : MS} {res : Int × MS} (h : m_qPuts a1 s0 = some res) (l : Launch) : GMet l yX8_qPuts cX8_qPuts 3 none 1 (MRp D o) (MK D) (mAd o) [.ref o, Lg a1] s0 0 res := by
  refine GMet.of [(0, .ref o), (1, Lg a1)] (by decide) (MK_moved D) (Nat.le_of_ble_eq_true rfl) rfl ?_
  intro p e s m args below meth c hC
  have hC : GC p s m args meth c cX8_qPuts RX8 3 none (MK D) := hC
  unfold m_qPuts at h
  refine gw_aload_n 0 0 hC dX8_qPuts_0 rfl ?_
  refine mg_102 1 hC dX8_qPuts_1 ?_
  refine gw_aload_n 4 0 hC dX8_qPuts_4 rfl ?_
  refine mg_103 5 hC dX8_qPuts_5 ?_
  refine gw_lload_n 8 1 hC dX8_qPuts_8 rfl ?_
  obtain ⟨g2, h⟩ := gd_e h
  obtain ⟨s3, es3, h⟩ := bnd_e h
  refine m_last 9 102 hC (MIn_self o) (by decide) rfl g2 es3 dX8_qPuts_9 ?_
  refine gw_aload_n 10 0 hC dX8_qPuts_10 rfl ?_
  refine gw_dup 11 hC dX8_qPuts_11 rfl ?_
  refine mg_103 12 hC dX8_qPuts_12 ?_
  refine gw_iconst 15 hC dX8_qPuts_15 ?_
  refine gw_iadd 16 hC dX8_qPuts_16 ?_
  obtain ⟨s4, es4, h⟩ := bnd_e h
  refine mp_103 17 hC (MIn_self o) es4 dX8_qPuts_17 ?_
  exact gw_vret 20 hC dX8_qPuts_20 h
/-! toneOf(I)I -/
noncomputable def m_toneOf (a1 : Int) (s0 : MS) : Option (Int × MS) :=
  gd (ok 219 ((8 + (10 * a1)) + 2)) <|
  some ((s0 48 (i32 ((8 + (10 * a1)) + 2))), s0)
theorem met_toneOf {D : MD} {o : Nat} {a1 : Int} {s0 : MS} {res : Int × MS} (h : m_toneOf a1 s0 = some res) (l : Launch) : GMet l yX8_toneOf cX8_toneOf 2 (some .int) 1 (MRp D o) (MK D) (mAd o) [.ref o, J a1] s0 1 res := by
  refine GMet.of [(0, .ref o), (1, J a1)] (by decide) (MK_moved D) (Nat.le_of_ble_eq_true rfl) rfl ?_
  intro p e s m args below meth c hC
  have hC : GC p s m args meth c cX8_toneOf RX8 2 (some .int) (MK D) := hC
  unfold m_toneOf at h
  refine gw_aload_n 0 0 hC dX8_toneOf_0 rfl ?_
  refine mg_48 1 hC dX8_toneOf_1 ?_
  refine gw_bipush 4 hC dX8_toneOf_4 (by decide) ?_
  refine gw_bipush 6 hC dX8_toneOf_6 (by decide) ?_
  refine gw_iload_n 8 1 hC dX8_toneOf_8 rfl ?_
  refine gw_imul 9 hC dX8_toneOf_9 ?_
  refine gw_iadd 10 hC dX8_toneOf_10 ?_
  refine gw_iconst 11 hC dX8_toneOf_11 ?_
  refine gw_iadd 12 hC dX8_toneOf_12 ?_
  obtain ⟨g2, h⟩ := gd_e h
  refine m_iald 13 48 hC (by decide) rfl g2 dX8_toneOf_13 ?_
  exact gw_iret 14 hC dX8_toneOf_14 h
/-! columnOf(I)I -/
noncomputable def m_columnOf (a1 : Int) (s0 : MS) : Option (Int × MS) :=
  gd (ok 219 (8 + (10 * a1))) <|
  some ((s0 48 (i32 (8 + (10 * a1)))), s0)
theorem met_columnOf {D : MD} {o : Nat} {a1 : Int} {s0 : MS} {res : Int × MS} (h : m_columnOf a1 s0 = some res) (l : Launch) : GMet l yX8_columnOf cX8_columnOf 2 (some .int) 1 (MRp D o) (MK D) (mAd o) [.ref o, J a1] s0 1 res := by
  refine GMet.of [(0, .ref o), (1, J a1)] (by decide) (MK_moved D) (Nat.le_of_ble_eq_true rfl) rfl ?_
  intro p e s m args below meth c hC
  have hC : GC p s m args meth c cX8_columnOf RX8 2 (some .int) (MK D) := hC
  unfold m_columnOf at h
  refine gw_aload_n 0 0 hC dX8_columnOf_0 rfl ?_
  refine mg_48 1 hC dX8_columnOf_1 ?_
  refine gw_bipush 4 hC dX8_columnOf_4 (by decide) ?_
  refine gw_bipush 6 hC dX8_columnOf_6 (by decide) ?_
  refine gw_iload_n 8 1 hC dX8_columnOf_8 rfl ?_
  refine gw_imul 9 hC dX8_columnOf_9 ?_
  refine gw_iadd 10 hC dX8_columnOf_10 ?_
  obtain ⟨g2, h⟩ := gd_e h
  refine m_iald 11 48 hC (by decide) rfl g2 dX8_columnOf_11 ?_
  exact gw_iret 12 hC dX8_columnOf_12 h
/-! rowOf(I)I -/
noncomputable def m_rowOf (a1 : Int) (s0 : MS) : Option (Int × MS) :=
  gd (ok 219 ((8 + (10 * a1)) + 1)) <|
  some ((s0 48 (i32 ((8 + (10 * a1)) + 1))), s0)
theorem met_rowOf {D : MD} {o : Nat} {a1 : Int} {s0 : MS} {res : Int × MS} (h : m_rowOf a1 s0 = some res) (l : Launch) : GMet l yX8_rowOf cX8_rowOf 2 (some .int) 1 (MRp D o) (MK D) (mAd o) [.ref o, J a1] s0 1 res := by
  refine GMet.of [(0, .ref o), (1, J a1)] (by decide) (MK_moved D) (Nat.le_of_ble_eq_true rfl) rfl ?_
  intro p e s m args below meth c hC
  have hC : GC p s m args meth c cX8_rowOf RX8 2 (some .int) (MK D) := hC
  unfold m_rowOf at h
  refine gw_aload_n 0 0 hC dX8_rowOf_0 rfl ?_
  refine mg_48 1 hC dX8_rowOf_1 ?_
  refine gw_bipush 4 hC dX8_rowOf_4 (by decide) ?_
  refine gw_bipush 6 hC dX8_rowOf_6 (by decide) ?_
  refine gw_iload_n 8 1 hC dX8_rowOf_8 rfl ?_
  refine gw_imul 9 hC dX8_rowOf_9 ?_
  refine gw_iadd 10 hC dX8_rowOf_10 ?_
  refine gw_iconst 11 hC dX8_rowOf_11 ?_
  refine gw_iadd 12 hC dX8_rowOf_12 ?_
  obtain ⟨g2, h⟩ := gd_e h
  refine m_iald 13 48 hC (by decide) rfl g2 dX8_rowOf_13 ?_
  exact gw_iret 14 hC dX8_rowOf_14 h
/-! qPartOf(II)J -/
noncomputable def m_qPartOf (a1 : Int) (a2 : Int) (s0 : MS) : Option (Int × MS) :=
  if i32 a1 = 0 then
    Option.bind (m_toneOf a2 s0) fun z4 =>
    some ((i32 z4.1), z4.2)
  else
  if i32 a1 = 1 then
    gd (ok 28 (14 + (2 * (s0 50 0)))) <|
    some ((i32 (s0 39 (i32 (14 + (2 * (s0 50 0)))))), s0)
  else
  if i32 a1 = 2 then
    gd (ok 28 (15 + (2 * (s0 50 0)))) <|
    some ((i32 (s0 39 (i32 (15 + (2 * (s0 50 0)))))), s0)
  else
  if i32 a1 = 3 then
    Option.bind (m_givenOf a2 (s0 50 0) s0) fun z10 =>
    some ((i32 z10.1), z10.2)
  else
  if i32 a1 = 4 then
    gd (ok 219 0) <|
    some ((i32 (s0 48 (i32 0))), s0)
  else
  if i32 a1 = 5 then
    some ((i32 a2), s0)
  else
  if i32 a1 = 6 then
    Option.bind (m_columnOf a2 s0) fun z15 =>
    some ((i32 z15.1), z15.2)
  else
  if i32 a1 = 7 then
    Option.bind (m_rowOf a2 s0) fun z17 =>
    some ((i32 z17.1), z17.2)
  else
    if i32 (s0 55 0) = 0 then
      some ((-1), s0)
    else
      gd (ok 6 a2) <|
      some ((i32 (s0 54 (i32 a2))), s0)
theorem met_qPartOf {D : MD} {o : Nat} {a1 : Int} {a2 : Int} {s0 : MS} {res : Int × MS} (h : m_qPartOf a1 a2 s0 = some res) (l : Launch) : GMet l yX8_qPartOf cX8_qPartOf 3 (some .long) 2 (MRp D o) (MK D) (mAd o) [.ref o, J a1, J a2] s0 2 res := by
  refine GMet.of [(0, .ref o), (1, J a1), (2, J a2)] (by decide) (MK_moved D) (Nat.le_of_ble_eq_true rfl) rfl ?_
  intro p e s m args below meth c hC
  have hC : GC p s m args meth c cX8_qPartOf RX8 3 (some .long) (MK D) := hC
  unfold m_qPartOf at h
  refine gw_iload_n 0 1 hC dX8_qPartOf_0 rfl ?_
  by_cases c3 : i32 a1 = 0
  · replace h := if_t h c3
    refine gw_tableIn 1 48 0 hC dX8_qPartOf_1 c3 (by decide) (by decide) rfl (by decide) ?_
    refine gw_aload_n 48 0 hC dX8_qPartOf_48 rfl ?_
    refine gw_iload_n 49 2 hC dX8_qPartOf_49 rfl ?_
    obtain ⟨z4, ez4, h⟩ := opt_e h
    refine gw_callV (As := [J a2]) (rest := []) (st' := [J z4.1]) 50 1 hC (met_toneOf ez4 l) (lw_V q2324 q2326 qs105 q161 q2327) (by decide +kernel) (by decide) (m_recv hC) rfl rfl (Nat.le_of_ble_eq_true rfl) dX8_qPartOf_50 rfl ?_
    refine gw_i2l 53 hC dX8_qPartOf_53 ?_
    exact gw_lret 54 hC dX8_qPartOf_54 h
  replace h := if_f h c3
  by_cases c5 : i32 a1 = 1
  · replace h := if_t h c5
    refine gw_tableIn 1 55 1 hC dX8_qPartOf_1 c5 (by decide) (by decide) rfl (by decide) ?_
    refine gw_aload_n 55 0 hC dX8_qPartOf_55 rfl ?_
    refine mg_39 56 hC dX8_qPartOf_56 ?_
    refine gw_bipush 59 hC dX8_qPartOf_59 (by decide) ?_
    refine gw_iconst 61 hC dX8_qPartOf_61 ?_
    refine gw_aload_n 62 0 hC dX8_qPartOf_62 rfl ?_
    refine mg_50 63 hC dX8_qPartOf_63 ?_
    refine gw_imul 66 hC dX8_qPartOf_66 ?_
    refine gw_iadd 67 hC dX8_qPartOf_67 ?_
    obtain ⟨g6, h⟩ := gd_e h
    refine m_iald 68 39 hC (by decide) rfl g6 dX8_qPartOf_68 ?_
    refine gw_i2l 69 hC dX8_qPartOf_69 ?_
    exact gw_lret 70 hC dX8_qPartOf_70 h
  replace h := if_f h c5
  by_cases c7 : i32 a1 = 2
  · replace h := if_t h c7
    refine gw_tableIn 1 71 2 hC dX8_qPartOf_1 c7 (by decide) (by decide) rfl (by decide) ?_
    refine gw_aload_n 71 0 hC dX8_qPartOf_71 rfl ?_
    refine mg_39 72 hC dX8_qPartOf_72 ?_
    refine gw_bipush 75 hC dX8_qPartOf_75 (by decide) ?_
    refine gw_iconst 77 hC dX8_qPartOf_77 ?_
    refine gw_aload_n 78 0 hC dX8_qPartOf_78 rfl ?_
    refine mg_50 79 hC dX8_qPartOf_79 ?_
    refine gw_imul 82 hC dX8_qPartOf_82 ?_
    refine gw_iadd 83 hC dX8_qPartOf_83 ?_
    obtain ⟨g8, h⟩ := gd_e h
    refine m_iald 84 39 hC (by decide) rfl g8 dX8_qPartOf_84 ?_
    refine gw_i2l 85 hC dX8_qPartOf_85 ?_
    exact gw_lret 86 hC dX8_qPartOf_86 h
  replace h := if_f h c7
  by_cases c9 : i32 a1 = 3
  · replace h := if_t h c9
    refine gw_tableIn 1 87 3 hC dX8_qPartOf_1 c9 (by decide) (by decide) rfl (by decide) ?_
    refine gw_aload_n 87 0 hC dX8_qPartOf_87 rfl ?_
    refine gw_iload_n 88 2 hC dX8_qPartOf_88 rfl ?_
    refine gw_aload_n 89 0 hC dX8_qPartOf_89 rfl ?_
    refine mg_50 90 hC dX8_qPartOf_90 ?_
    obtain ⟨z10, ez10, h⟩ := opt_e h
    refine gw_callV (As := [J a2, J (s0 50 0)]) (rest := []) (st' := [J z10.1]) 93 2 hC (met_givenOf ez10 l) (lw_V q2282 q2284 qs97 q161 q2285) (by decide +kernel) (by decide) (m_recv hC) rfl rfl (Nat.le_of_ble_eq_true rfl) dX8_qPartOf_93 rfl ?_
    refine gw_i2l 96 hC dX8_qPartOf_96 ?_
    exact gw_lret 97 hC dX8_qPartOf_97 h
  replace h := if_f h c9
  by_cases c11 : i32 a1 = 4
  · replace h := if_t h c11
    refine gw_tableIn 1 98 4 hC dX8_qPartOf_1 c11 (by decide) (by decide) rfl (by decide) ?_
    refine gw_aload_n 98 0 hC dX8_qPartOf_98 rfl ?_
    refine mg_48 99 hC dX8_qPartOf_99 ?_
    refine gw_iconst 102 hC dX8_qPartOf_102 ?_
    obtain ⟨g12, h⟩ := gd_e h
    refine m_iald 103 48 hC (by decide) rfl g12 dX8_qPartOf_103 ?_
    refine gw_i2l 104 hC dX8_qPartOf_104 ?_
    exact gw_lret 105 hC dX8_qPartOf_105 h
  replace h := if_f h c11
  by_cases c13 : i32 a1 = 5
  · replace h := if_t h c13
    refine gw_tableIn 1 106 5 hC dX8_qPartOf_1 c13 (by decide) (by decide) rfl (by decide) ?_
    refine gw_iload_n 106 2 hC dX8_qPartOf_106 rfl ?_
    refine gw_i2l 107 hC dX8_qPartOf_107 ?_
    exact gw_lret 108 hC dX8_qPartOf_108 h
  replace h := if_f h c13
  by_cases c14 : i32 a1 = 6
  · replace h := if_t h c14
    refine gw_tableIn 1 109 6 hC dX8_qPartOf_1 c14 (by decide) (by decide) rfl (by decide) ?_
    refine gw_aload_n 109 0 hC dX8_qPartOf_109 rfl ?_
    refine gw_iload_n 110 2 hC dX8_qPartOf_110 rfl ?_
    obtain ⟨z15, ez15, h⟩ := opt_e h
    refine gw_callV (As := [J a2]) (rest := []) (st' := [J z15.1]) 111 1 hC (met_columnOf ez15 l) (lw_V q2328 q2330 qs106 q161 q2331) (by decide +kernel) (by decide) (m_recv hC) rfl rfl (Nat.le_of_ble_eq_true rfl) dX8_qPartOf_111 rfl ?_
    refine gw_i2l 114 hC dX8_qPartOf_114 ?_
    exact gw_lret 115 hC dX8_qPartOf_115 h
  replace h := if_f h c14
  by_cases c16 : i32 a1 = 7
  · replace h := if_t h c16
    refine gw_tableIn 1 116 7 hC dX8_qPartOf_1 c16 (by decide) (by decide) rfl (by decide) ?_
    refine gw_aload_n 116 0 hC dX8_qPartOf_116 rfl ?_
    refine gw_iload_n 117 2 hC dX8_qPartOf_117 rfl ?_
    obtain ⟨z17, ez17, h⟩ := opt_e h
    refine gw_callV (As := [J a2]) (rest := []) (st' := [J z17.1]) 118 1 hC (met_rowOf ez17 l) (lw_V q2332 q2334 qs107 q161 q2335) (by decide +kernel) (by decide) (m_recv hC) rfl rfl (Nat.le_of_ble_eq_true rfl) dX8_qPartOf_118 rfl ?_
    refine gw_i2l 121 hC dX8_qPartOf_121 ?_
    exact gw_lret 122 hC dX8_qPartOf_122 h
  replace h := if_f h c16
  refine gw_tableOut 1 123 hC dX8_qPartOf_1 (by omega) (by decide) ?_
  refine gw_aload_n 123 0 hC dX8_qPartOf_123 rfl ?_
  refine mg_55 124 hC dX8_qPartOf_124 ?_
  refine gw_if_eq 127 140 hC dX8_qPartOf_127 (by decide) (fun c18 => ?_) (fun c18 => ?_)
  · replace h := if_t h c18
    refine gw_ldc2 (v := -1) 140 hC dX8_qPartOf_140 q2336 (by decide) ?_
    exact gw_lret 143 hC dX8_qPartOf_143 h
  · replace h := if_f h c18
    refine gw_aload_n 130 0 hC dX8_qPartOf_130 rfl ?_
    refine mg_54 131 hC dX8_qPartOf_131 ?_
    refine gw_iload_n 134 2 hC dX8_qPartOf_134 rfl ?_
    obtain ⟨g19, h⟩ := gd_e h
    refine m_iald 135 54 hC (by decide) rfl g19 dX8_qPartOf_135 ?_
    refine gw_i2l 136 hC dX8_qPartOf_136 ?_
    refine gw_goto 137 143 hC dX8_qPartOf_137 (by decide) ?_
    exact gw_lret 143 hC dX8_qPartOf_143 h
/-! qClip(J)J -/
noncomputable def m_qClip (a1 : Int) (s0 : MS) : Option (Int × MS) :=
  if i64 a1 ≤ i64 1000000 then
    if i64 (-1000000) ≤ i64 a1 then
      some (a1, s0)
    else
      some ((-1000000), s0)
  else
    some (1000000, s0)
theorem met_qClip {D : MD} {o : Nat} {a1 : Int} {s0 : MS} {res : Int × MS} (h : m_qClip a1 s0 = some res) (l : Launch) : GMet l yX8_qClip cX8_qClip 2 (some .long) 1 (MRp D o) (MK D) (mAd o) [Lg a1] s0 2 res := by
  refine GMet.of [(0, Lg a1)] (by decide) (MK_moved D) (Nat.le_of_ble_eq_true rfl) rfl ?_
  intro p e s m args below meth c hC
  have hC : GC p s m args meth c cX8_qClip RX8 2 (some .long) (MK D) := hC
  unfold m_qClip at h
  refine gw_lload_n 0 0 hC dX8_qClip_0 rfl ?_
  refine gw_ldc2 (v := 1000000) 1 hC dX8_qClip_1 q2344 (by decide) ?_
  refine gw_lcmp_le 4 14 hC dX8_qClip_4 dX8_qClip_5 (by decide) (fun c2 => ?_) (fun c2 => ?_)
  · replace h := if_t h c2
    refine gw_lload_n 14 0 hC dX8_qClip_14 rfl ?_
    refine gw_ldc2 (v := -1000000) 15 hC dX8_qClip_15 q2345 (by decide) ?_
    refine gw_lcmp_ge 18 28 hC dX8_qClip_18 dX8_qClip_19 (by decide) (fun c3 => ?_) (fun c3 => ?_)
    · replace h := if_t h c3
      refine gw_lload_n 28 0 hC dX8_qClip_28 rfl ?_
      exact gw_lret 29 hC dX8_qClip_29 h
    · replace h := if_f h c3
      refine gw_ldc2 (v := -1000000) 22 hC dX8_qClip_22 q2345 (by decide) ?_
      refine gw_goto 25 29 hC dX8_qClip_25 (by decide) ?_
      exact gw_lret 29 hC dX8_qClip_29 h
  · replace h := if_f h c2
    refine gw_ldc2 (v := 1000000) 8 hC dX8_qClip_8 q2344 (by decide) ?_
    refine gw_goto 11 29 hC dX8_qClip_11 (by decide) ?_
    exact gw_lret 29 hC dX8_qClip_29 h
/-! qFloor(JJ)J -/
noncomputable def m_qFloor (a1 : Int) (a2 : Int) (s0 : MS) : Option (Int × MS) :=
  if i64 a2 = i64 0 then
    some (0, s0)
  else
    gd (¬ i64 a2 = 0) <|
    bnd (ldiv a1 a2) fun x4_5 =>
    gd (¬ i64 a2 = 0) <|
    bnd (fun (x4_7 : Int) (s8 : MS) =>
        some (x4_7, s8)) fun j9 =>
    if i64 (lrem a1 a2) = i64 0 then
      j9 x4_5 s0
    else
      bnd (fun (x2_11 : Int) (x4_12 : Int) (w13 : Int) (s14 : MS) =>
          bnd (fun (x4_15 : Int) (w16 : Int) (w17 : Int) (s18 : MS) =>
              if i32 w17 = i32 w16 then
                j9 x4_15 s18
              else
                some ((x4_15 - 1), s18)) fun j20 =>
          if i64 0 ≤ i64 x2_11 then
            j20 x4_12 0 w13 s14
          else
            j20 x4_12 1 w13 s14) fun j22 =>
      if i64 0 ≤ i64 a1 then
        j22 a2 x4_5 0 s0
      else
        j22 a2 x4_5 1 s0
theorem met_qFloor {D : MD} {o : Nat} {a1 : Int} {a2 : Int} {s0 : MS} {res : Int × MS} (h : m_qFloor a1 a2 s0 = some res) (l : Launch) : GMet l yX8_qFloor cX8_qFloor 6 (some .long) 1 (MRp D o) (MK D) (mAd o) [Lg a1, Lg a2] s0 2 res := by
  refine GMet.of [(0, Lg a1), (2, Lg a2)] (by decide) (MK_moved D) (Nat.le_of_ble_eq_true rfl) rfl ?_
  intro p e s m args below meth c hC
  have hC : GC p s m args meth c cX8_qFloor RX8 6 (some .long) (MK D) := hC
  unfold m_qFloor at h
  refine gw_lload_n 0 1 hC dX8_qFloor_0 rfl ?_
  refine gw_lconst (v := 0) 1 hC dX8_qFloor_1 (by decide) ?_
  refine gw_lcmp_ne 2 8 hC dX8_qFloor_2 dX8_qFloor_3 (by decide) (fun c3 => ?_) (fun c3 => ?_)
  · replace h := if_f h c3
    refine gw_lload_n 8 0 hC dX8_qFloor_8 rfl ?_
    refine gw_lload_n 9 1 hC dX8_qFloor_9 rfl ?_
    obtain ⟨g4, h⟩ := gd_e h
    refine gw_ldiv 10 hC dX8_qFloor_10 g4 ?_
    obtain ⟨x4_5, ex4_5, h⟩ := bnd_e h
    refine gw_lstore 11 [(4, Lg x4_5), (0, Lg a1), (2, Lg a2)] hC dX8_qFloor_11 (by decide) ex4_5 rfl ?_
    refine gw_lload_n 13 1 hC dX8_qFloor_13 rfl ?_
    refine gw_lload_n 14 2 hC dX8_qFloor_14 rfl ?_
    obtain ⟨g6, h⟩ := gd_e h
    refine gw_lrem 15 hC dX8_qFloor_15 g6 ?_
    refine gw_lconst (v := 0) 16 hC dX8_qFloor_16 (by decide) ?_
    obtain ⟨j9, ej9, h⟩ := bnd_e h
    have hj9 : ∀ (x4_7 : Int) (s8 : MS), j9 x4_7 s8 = some res → GW p l e (rmd 1) s m args below meth c 6 (mAd o) (MRp D o) (MK D) 2 res s8 53 [(4, Lg x4_7)] [] := by
      clear h
      intro x4_7 s8 h
      subst ej9
      refine gw_lload 53 0 hC dX8_qFloor_53 rfl ?_
      exact gw_lret 55 hC dX8_qFloor_55 h
    refine gw_lcmp_eq 17 53 hC dX8_qFloor_17 dX8_qFloor_18 (by decide) (fun c10 => ?_) (fun c10 => ?_)
    · replace h := if_t h c10
      refine gw_sub [0] rfl ?_
      exact hj9 _ _ h
    · replace h := if_f h c10
      refine gw_lload_n 21 1 hC dX8_qFloor_21 rfl ?_
      refine gw_lconst (v := 0) 22 hC dX8_qFloor_22 (by decide) ?_
      obtain ⟨j22, ej22, h⟩ := bnd_e h
      have hj22 : ∀ (x2_11 : Int) (x4_12 : Int) (w13 : Int) (s14 : MS), j22 x2_11 x4_12 w13 s14 = some res → GW p l e (rmd 1) s m args below meth c 6 (mAd o) (MRp D o) (MK D) 2 res s14 32 [(2, Lg x2_11), (4, Lg x4_12)] [J w13] := by
        clear h
        intro x2_11 x4_12 w13 s14 h
        subst ej22
        refine gw_lload_n 32 0 hC dX8_qFloor_32 rfl ?_
        refine gw_lconst (v := 0) 33 hC dX8_qFloor_33 (by decide) ?_
        obtain ⟨j20, ej20, h⟩ := bnd_e h
        have hj20 : ∀ (x4_15 : Int) (w16 : Int) (w17 : Int) (s18 : MS), j20 x4_15 w16 w17 s18 = some res → GW p l e (rmd 1) s m args below meth c 6 (mAd o) (MRp D o) (MK D) 2 res s18 43 [(4, Lg x4_15)] [J w16, J w17] := by
          clear h
          intro x4_15 w16 w17 s18 h
          subst ej20
          refine gw_icmp_eq 43 53 hC dX8_qFloor_43 (by decide) (fun c19 => ?_) (fun c19 => ?_)
          · replace h := if_t h c19
            refine gw_sub [0] rfl ?_
            exact hj9 _ _ h
          · replace h := if_f h c19
            refine gw_lload 46 0 hC dX8_qFloor_46 rfl ?_
            refine gw_lconst (v := 1) 48 hC dX8_qFloor_48 (by decide) ?_
            refine gw_lsub 49 hC dX8_qFloor_49 ?_
            refine gw_goto 50 55 hC dX8_qFloor_50 (by decide) ?_
            exact gw_lret 55 hC dX8_qFloor_55 h
        refine gw_lcmp_ge 34 42 hC dX8_qFloor_34 dX8_qFloor_35 (by decide) (fun c21 => ?_) (fun c21 => ?_)
        · replace h := if_t h c21
          refine gw_iconst 42 hC dX8_qFloor_42 ?_
          refine gw_sub [1] rfl ?_
          exact hj20 _ _ _ _ h
        · replace h := if_f h c21
          refine gw_iconst 38 hC dX8_qFloor_38 ?_
          refine gw_goto 39 43 hC dX8_qFloor_39 (by decide) ?_
          refine gw_sub [1] rfl ?_
          exact hj20 _ _ _ _ h
      refine gw_lcmp_ge 23 31 hC dX8_qFloor_23 dX8_qFloor_24 (by decide) (fun c23 => ?_) (fun c23 => ?_)
      · replace h := if_t h c23
        refine gw_iconst 31 hC dX8_qFloor_31 ?_
        refine gw_sub [2, 0] rfl ?_
        exact hj22 _ _ _ _ h
      · replace h := if_f h c23
        refine gw_iconst 27 hC dX8_qFloor_27 ?_
        refine gw_goto 28 32 hC dX8_qFloor_28 (by decide) ?_
        refine gw_sub [2, 0] rfl ?_
        exact hj22 _ _ _ _ h
  · replace h := if_t h c3
    refine gw_lconst (v := 0) 6 hC dX8_qFloor_6 (by decide) ?_
    exact gw_lret 7 hC dX8_qFloor_7 h
/-! qJoins(I)V -/
noncomputable def m_qJoins (a1 : Int) (s0 : MS) : Option (Int × MS) :=
  gd (ok 1700 ((s0 103 0) - 1)) <|
  bnd (s0 102 (i32 ((s0 103 0) - 1))) fun x2_3 =>
  gd (ok 1700 ((s0 103 0) - 2)) <|
  bnd (s0 102 (i32 ((s0 103 0) - 2))) fun x4_5 =>
  bnd (up s0 103 0 ((s0 103 0) - 2)) fun s6 =>
  if i32 a1 = 1 then
    Option.bind (m_qClip (x4_5 + x2_3) s6) fun z8 =>
    Option.bind (m_qPuts z8.1 z8.2) fun z9 =>
    some (0, z9.2)
  else
  if i32 a1 = 2 then
    Option.bind (m_qClip (x4_5 - x2_3) s6) fun z11 =>
    Option.bind (m_qPuts z11.1 z11.2) fun z12 =>
    some (0, z12.2)
  else
  if i32 a1 = 3 then
    Option.bind (m_qClip (x4_5 * x2_3) s6) fun z14 =>
    Option.bind (m_qPuts z14.1 z14.2) fun z15 =>
    some (0, z15.2)
  else
  if i32 a1 = 4 then
    Option.bind (m_qFloor x4_5 x2_3 s6) fun z17 =>
    Option.bind (m_qPuts z17.1 z17.2) fun z18 =>
    some (0, z18.2)
  else
  if i32 a1 = 5 then
    bnd (fun (w20 : Int) (s21 : MS) =>
        Option.bind (m_qPuts w20 s21) fun z22 =>
        some (0, z22.2)) fun j23 =>
    if i64 x2_3 ≤ i64 x4_5 then
      j23 x2_3 s6
    else
      j23 x4_5 s6
  else
  if i32 a1 = 6 then
    bnd (fun (w26 : Int) (s27 : MS) =>
        Option.bind (m_qPuts w26 s27) fun z28 =>
        some (0, z28.2)) fun j29 =>
    if i64 x4_5 ≤ i64 x2_3 then
      j29 x2_3 s6
    else
      j29 x4_5 s6
  else
  if i32 a1 = 7 then
    bnd (fun (w32 : Int) (s33 : MS) =>
        Option.bind (m_qPuts w32 s33) fun z34 =>
        some (0, z34.2)) fun j35 =>
    if i64 x2_3 ≤ i64 x4_5 then
      j35 0 s6
    else
      j35 1 s6
  else
  if i32 a1 = 8 then
    bnd (fun (w38 : Int) (s39 : MS) =>
        Option.bind (m_qPuts w38 s39) fun z40 =>
        some (0, z40.2)) fun j41 =>
    if i64 x4_5 ≤ i64 x2_3 then
      j41 0 s6
    else
      j41 1 s6
  else
  if i32 a1 = 9 then
    bnd (fun (w44 : Int) (s45 : MS) =>
        Option.bind (m_qPuts w44 s45) fun z46 =>
        some (0, z46.2)) fun j47 =>
    if i64 x4_5 = i64 x2_3 then
      j47 1 s6
    else
      j47 0 s6
  else
  if i32 a1 = 10 then
    Option.bind (m_qPuts (x4_5 * x2_3) s6) fun z50 =>
    some (0, z50.2)
  else
    bnd (fun (w51 : Int) (s52 : MS) =>
        Option.bind (m_qPuts w51 s52) fun z53 =>
        some (0, z53.2)) fun j54 =>
    if i64 (x4_5 + x2_3) ≤ i64 0 then
      j54 0 s6
    else
      j54 1 s6
theorem met_qJoins {D : MD} {o : Nat} {a1 : Int} {s0 : MS} {res : Int × MS} (h : m_qJoins a1 s0 = some res) (l : Launch) : GMet l yX8_qJoins cX8_qJoins 6 none 2 (MRp D o) (MK D) (mAd o) [.ref o, J a1] s0 0 res := by
  refine GMet.of [(0, .ref o), (1, J a1)] (by decide) (MK_moved D) (Nat.le_of_ble_eq_true rfl) rfl ?_
  intro p e s m args below meth c hC
  have hC : GC p s m args meth c cX8_qJoins RX8 6 none (MK D) := hC
  unfold m_qJoins at h
  refine gw_aload_n 0 0 hC dX8_qJoins_0 rfl ?_
  refine mg_102 1 hC dX8_qJoins_1 ?_
  refine gw_aload_n 4 0 hC dX8_qJoins_4 rfl ?_
  refine mg_103 5 hC dX8_qJoins_5 ?_
  refine gw_iconst 8 hC dX8_qJoins_8 ?_
  refine gw_isub 9 hC dX8_qJoins_9 ?_
  obtain ⟨g2, h⟩ := gd_e h
  refine m_lald 10 102 hC (by decide) rfl g2 dX8_qJoins_10 ?_
  obtain ⟨x2_3, ex2_3, h⟩ := bnd_e h
  refine gw_lstore_n 11 [(2, Lg x2_3), (0, .ref o), (1, J a1)] hC dX8_qJoins_11 (by decide) ex2_3 rfl ?_
  refine gw_aload_n 12 1 hC dX8_qJoins_12 rfl ?_
  refine mg_102 13 hC dX8_qJoins_13 ?_
  refine gw_aload_n 16 1 hC dX8_qJoins_16 rfl ?_
  refine mg_103 17 hC dX8_qJoins_17 ?_
  refine gw_iconst 20 hC dX8_qJoins_20 ?_
  refine gw_isub 21 hC dX8_qJoins_21 ?_
  obtain ⟨g4, h⟩ := gd_e h
  refine m_lald 22 102 hC (by decide) rfl g4 dX8_qJoins_22 ?_
  obtain ⟨x4_5, ex4_5, h⟩ := bnd_e h
  refine gw_lstore 23 [(4, Lg x4_5), (2, Lg x2_3), (0, .ref o), (1, J a1)] hC dX8_qJoins_23 (by decide) ex4_5 rfl ?_
  refine gw_aload_n 25 2 hC dX8_qJoins_25 rfl ?_
  refine gw_dup 26 hC dX8_qJoins_26 rfl ?_
  refine mg_103 27 hC dX8_qJoins_27 ?_
  refine gw_iconst 30 hC dX8_qJoins_30 ?_
  refine gw_isub 31 hC dX8_qJoins_31 ?_
  obtain ⟨s6, es6, h⟩ := bnd_e h
  refine mp_103 32 hC (MIn_self o) es6 dX8_qJoins_32 ?_
  refine gw_iload_n 35 3 hC dX8_qJoins_35 rfl ?_
  by_cases c7 : i32 a1 = 1
  · replace h := if_t h c7
    refine gw_tableIn 36 92 1 hC dX8_qJoins_36 c7 (by decide) (by decide) rfl (by decide) ?_
    refine gw_aload_n 92 2 hC dX8_qJoins_92 rfl ?_
    refine gw_lload 93 0 hC dX8_qJoins_93 rfl ?_
    refine gw_lload_n 95 1 hC dX8_qJoins_95 rfl ?_
    refine gw_ladd 96 hC dX8_qJoins_96 ?_
    obtain ⟨z8, ez8, h⟩ := opt_e h
    refine gw_callS (As := [Lg (x4_5 + x2_3)]) (rest := [.ref o]) (st' := [Lg z8.1, .ref o]) 97 1 hC (met_qClip ez8 l) (lw_S q2341 q2342 q161 q2343) (by decide +kernel) (by decide) rfl rfl (Nat.le_of_ble_eq_true rfl) dX8_qJoins_97 rfl ?_
    obtain ⟨z9, ez9, h⟩ := opt_e h
    refine gw_callV (As := [Lg z8.1]) (rest := []) (st' := []) 100 1 hC (met_qPuts ez9 l) (lw_V q2316 q2318 qs103 q161 q2319) (by decide +kernel) (by decide) (m_recv hC) rfl rfl (Nat.le_of_ble_eq_true rfl) dX8_qJoins_100 rfl ?_
    refine gw_goto 103 273 hC dX8_qJoins_103 (by decide) ?_
    exact gw_vret 273 hC dX8_qJoins_273 h
  replace h := if_f h c7
  by_cases c10 : i32 a1 = 2
  · replace h := if_t h c10
    refine gw_tableIn 36 106 2 hC dX8_qJoins_36 c10 (by decide) (by decide) rfl (by decide) ?_
    refine gw_aload_n 106 2 hC dX8_qJoins_106 rfl ?_
    refine gw_lload 107 0 hC dX8_qJoins_107 rfl ?_
    refine gw_lload_n 109 1 hC dX8_qJoins_109 rfl ?_
    refine gw_lsub 110 hC dX8_qJoins_110 ?_
    obtain ⟨z11, ez11, h⟩ := opt_e h
    refine gw_callS (As := [Lg (x4_5 - x2_3)]) (rest := [.ref o]) (st' := [Lg z11.1, .ref o]) 111 1 hC (met_qClip ez11 l) (lw_S q2341 q2342 q161 q2343) (by decide +kernel) (by decide) rfl rfl (Nat.le_of_ble_eq_true rfl) dX8_qJoins_111 rfl ?_
    obtain ⟨z12, ez12, h⟩ := opt_e h
    refine gw_callV (As := [Lg z11.1]) (rest := []) (st' := []) 114 1 hC (met_qPuts ez12 l) (lw_V q2316 q2318 qs103 q161 q2319) (by decide +kernel) (by decide) (m_recv hC) rfl rfl (Nat.le_of_ble_eq_true rfl) dX8_qJoins_114 rfl ?_
    refine gw_goto 117 273 hC dX8_qJoins_117 (by decide) ?_
    exact gw_vret 273 hC dX8_qJoins_273 h
  replace h := if_f h c10
  by_cases c13 : i32 a1 = 3
  · replace h := if_t h c13
    refine gw_tableIn 36 120 3 hC dX8_qJoins_36 c13 (by decide) (by decide) rfl (by decide) ?_
    refine gw_aload_n 120 2 hC dX8_qJoins_120 rfl ?_
    refine gw_lload 121 0 hC dX8_qJoins_121 rfl ?_
    refine gw_lload_n 123 1 hC dX8_qJoins_123 rfl ?_
    refine gw_lmul 124 hC dX8_qJoins_124 ?_
    obtain ⟨z14, ez14, h⟩ := opt_e h
    refine gw_callS (As := [Lg (x4_5 * x2_3)]) (rest := [.ref o]) (st' := [Lg z14.1, .ref o]) 125 1 hC (met_qClip ez14 l) (lw_S q2341 q2342 q161 q2343) (by decide +kernel) (by decide) rfl rfl (Nat.le_of_ble_eq_true rfl) dX8_qJoins_125 rfl ?_
    obtain ⟨z15, ez15, h⟩ := opt_e h
    refine gw_callV (As := [Lg z14.1]) (rest := []) (st' := []) 128 1 hC (met_qPuts ez15 l) (lw_V q2316 q2318 qs103 q161 q2319) (by decide +kernel) (by decide) (m_recv hC) rfl rfl (Nat.le_of_ble_eq_true rfl) dX8_qJoins_128 rfl ?_
    refine gw_goto 131 273 hC dX8_qJoins_131 (by decide) ?_
    exact gw_vret 273 hC dX8_qJoins_273 h
  replace h := if_f h c13
  by_cases c16 : i32 a1 = 4
  · replace h := if_t h c16
    refine gw_tableIn 36 134 4 hC dX8_qJoins_36 c16 (by decide) (by decide) rfl (by decide) ?_
    refine gw_aload_n 134 2 hC dX8_qJoins_134 rfl ?_
    refine gw_lload 135 0 hC dX8_qJoins_135 rfl ?_
    refine gw_lload_n 137 1 hC dX8_qJoins_137 rfl ?_
    obtain ⟨z17, ez17, h⟩ := opt_e h
    refine gw_callS (As := [Lg x4_5, Lg x2_3]) (rest := [.ref o]) (st' := [Lg z17.1, .ref o]) 138 2 hC (met_qFloor ez17 l) (lw_S q2346 q2347 q161 q2348) (by decide +kernel) (by decide) rfl rfl (Nat.le_of_ble_eq_true rfl) dX8_qJoins_138 rfl ?_
    obtain ⟨z18, ez18, h⟩ := opt_e h
    refine gw_callV (As := [Lg z17.1]) (rest := []) (st' := []) 141 1 hC (met_qPuts ez18 l) (lw_V q2316 q2318 qs103 q161 q2319) (by decide +kernel) (by decide) (m_recv hC) rfl rfl (Nat.le_of_ble_eq_true rfl) dX8_qJoins_141 rfl ?_
    refine gw_goto 144 273 hC dX8_qJoins_144 (by decide) ?_
    exact gw_vret 273 hC dX8_qJoins_273 h
  replace h := if_f h c16
  by_cases c19 : i32 a1 = 5
  · replace h := if_t h c19
    refine gw_tableIn 36 147 5 hC dX8_qJoins_36 c19 (by decide) (by decide) rfl (by decide) ?_
    refine gw_aload_n 147 2 hC dX8_qJoins_147 rfl ?_
    refine gw_lload 148 0 hC dX8_qJoins_148 rfl ?_
    refine gw_lload_n 150 1 hC dX8_qJoins_150 rfl ?_
    obtain ⟨j23, ej23, h⟩ := bnd_e h
    have hj23 : ∀ (w20 : Int) (s21 : MS), j23 w20 s21 = some res → GW p l e (rmd 2) s m args below meth c 6 (mAd o) (MRp D o) (MK D) 0 res s21 161 [] [Lg w20, .ref o] := by
      clear h
      intro w20 s21 h
      subst ej23
      obtain ⟨z22, ez22, h⟩ := opt_e h
      refine gw_callV (As := [Lg w20]) (rest := []) (st' := []) 161 1 hC (met_qPuts ez22 l) (lw_V q2316 q2318 qs103 q161 q2319) (by decide +kernel) (by decide) (m_recv hC) rfl rfl (Nat.le_of_ble_eq_true rfl) dX8_qJoins_161 rfl ?_
      refine gw_goto 164 273 hC dX8_qJoins_164 (by decide) ?_
      exact gw_vret 273 hC dX8_qJoins_273 h
    refine gw_lcmp_ge 151 160 hC dX8_qJoins_151 dX8_qJoins_152 (by decide) (fun c24 => ?_) (fun c24 => ?_)
    · replace h := if_t h c24
      refine gw_lload_n 160 1 hC dX8_qJoins_160 rfl ?_
      refine gw_sub [] rfl ?_
      exact hj23 _ _ h
    · replace h := if_f h c24
      refine gw_lload 155 0 hC dX8_qJoins_155 rfl ?_
      refine gw_goto 157 161 hC dX8_qJoins_157 (by decide) ?_
      refine gw_sub [] rfl ?_
      exact hj23 _ _ h
  replace h := if_f h c19
  by_cases c25 : i32 a1 = 6
  · replace h := if_t h c25
    refine gw_tableIn 36 167 6 hC dX8_qJoins_36 c25 (by decide) (by decide) rfl (by decide) ?_
    refine gw_aload_n 167 2 hC dX8_qJoins_167 rfl ?_
    refine gw_lload 168 0 hC dX8_qJoins_168 rfl ?_
    refine gw_lload_n 170 1 hC dX8_qJoins_170 rfl ?_
    obtain ⟨j29, ej29, h⟩ := bnd_e h
    have hj29 : ∀ (w26 : Int) (s27 : MS), j29 w26 s27 = some res → GW p l e (rmd 2) s m args below meth c 6 (mAd o) (MRp D o) (MK D) 0 res s27 181 [] [Lg w26, .ref o] := by
      clear h
      intro w26 s27 h
      subst ej29
      obtain ⟨z28, ez28, h⟩ := opt_e h
      refine gw_callV (As := [Lg w26]) (rest := []) (st' := []) 181 1 hC (met_qPuts ez28 l) (lw_V q2316 q2318 qs103 q161 q2319) (by decide +kernel) (by decide) (m_recv hC) rfl rfl (Nat.le_of_ble_eq_true rfl) dX8_qJoins_181 rfl ?_
      refine gw_goto 184 273 hC dX8_qJoins_184 (by decide) ?_
      exact gw_vret 273 hC dX8_qJoins_273 h
    refine gw_lcmp_le 171 180 hC dX8_qJoins_171 dX8_qJoins_172 (by decide) (fun c30 => ?_) (fun c30 => ?_)
    · replace h := if_t h c30
      refine gw_lload_n 180 1 hC dX8_qJoins_180 rfl ?_
      refine gw_sub [] rfl ?_
      exact hj29 _ _ h
    · replace h := if_f h c30
      refine gw_lload 175 0 hC dX8_qJoins_175 rfl ?_
      refine gw_goto 177 181 hC dX8_qJoins_177 (by decide) ?_
      refine gw_sub [] rfl ?_
      exact hj29 _ _ h
  replace h := if_f h c25
  by_cases c31 : i32 a1 = 7
  · replace h := if_t h c31
    refine gw_tableIn 36 187 7 hC dX8_qJoins_36 c31 (by decide) (by decide) rfl (by decide) ?_
    refine gw_aload_n 187 2 hC dX8_qJoins_187 rfl ?_
    refine gw_lload 188 0 hC dX8_qJoins_188 rfl ?_
    refine gw_lload_n 190 1 hC dX8_qJoins_190 rfl ?_
    obtain ⟨j35, ej35, h⟩ := bnd_e h
    have hj35 : ∀ (w32 : Int) (s33 : MS), j35 w32 s33 = some res → GW p l e (rmd 2) s m args below meth c 6 (mAd o) (MRp D o) (MK D) 0 res s33 200 [] [Lg w32, .ref o] := by
      clear h
      intro w32 s33 h
      subst ej35
      obtain ⟨z34, ez34, h⟩ := opt_e h
      refine gw_callV (As := [Lg w32]) (rest := []) (st' := []) 200 1 hC (met_qPuts ez34 l) (lw_V q2316 q2318 qs103 q161 q2319) (by decide +kernel) (by decide) (m_recv hC) rfl rfl (Nat.le_of_ble_eq_true rfl) dX8_qJoins_200 rfl ?_
      refine gw_goto 203 273 hC dX8_qJoins_203 (by decide) ?_
      exact gw_vret 273 hC dX8_qJoins_273 h
    refine gw_lcmp_ge 191 199 hC dX8_qJoins_191 dX8_qJoins_192 (by decide) (fun c36 => ?_) (fun c36 => ?_)
    · replace h := if_t h c36
      refine gw_lconst (v := 0) 199 hC dX8_qJoins_199 (by decide) ?_
      refine gw_sub [] rfl ?_
      exact hj35 _ _ h
    · replace h := if_f h c36
      refine gw_lconst (v := 1) 195 hC dX8_qJoins_195 (by decide) ?_
      refine gw_goto 196 200 hC dX8_qJoins_196 (by decide) ?_
      refine gw_sub [] rfl ?_
      exact hj35 _ _ h
  replace h := if_f h c31
  by_cases c37 : i32 a1 = 8
  · replace h := if_t h c37
    refine gw_tableIn 36 206 8 hC dX8_qJoins_36 c37 (by decide) (by decide) rfl (by decide) ?_
    refine gw_aload_n 206 2 hC dX8_qJoins_206 rfl ?_
    refine gw_lload 207 0 hC dX8_qJoins_207 rfl ?_
    refine gw_lload_n 209 1 hC dX8_qJoins_209 rfl ?_
    obtain ⟨j41, ej41, h⟩ := bnd_e h
    have hj41 : ∀ (w38 : Int) (s39 : MS), j41 w38 s39 = some res → GW p l e (rmd 2) s m args below meth c 6 (mAd o) (MRp D o) (MK D) 0 res s39 219 [] [Lg w38, .ref o] := by
      clear h
      intro w38 s39 h
      subst ej41
      obtain ⟨z40, ez40, h⟩ := opt_e h
      refine gw_callV (As := [Lg w38]) (rest := []) (st' := []) 219 1 hC (met_qPuts ez40 l) (lw_V q2316 q2318 qs103 q161 q2319) (by decide +kernel) (by decide) (m_recv hC) rfl rfl (Nat.le_of_ble_eq_true rfl) dX8_qJoins_219 rfl ?_
      refine gw_goto 222 273 hC dX8_qJoins_222 (by decide) ?_
      exact gw_vret 273 hC dX8_qJoins_273 h
    refine gw_lcmp_le 210 218 hC dX8_qJoins_210 dX8_qJoins_211 (by decide) (fun c42 => ?_) (fun c42 => ?_)
    · replace h := if_t h c42
      refine gw_lconst (v := 0) 218 hC dX8_qJoins_218 (by decide) ?_
      refine gw_sub [] rfl ?_
      exact hj41 _ _ h
    · replace h := if_f h c42
      refine gw_lconst (v := 1) 214 hC dX8_qJoins_214 (by decide) ?_
      refine gw_goto 215 219 hC dX8_qJoins_215 (by decide) ?_
      refine gw_sub [] rfl ?_
      exact hj41 _ _ h
  replace h := if_f h c37
  by_cases c43 : i32 a1 = 9
  · replace h := if_t h c43
    refine gw_tableIn 36 225 9 hC dX8_qJoins_36 c43 (by decide) (by decide) rfl (by decide) ?_
    refine gw_aload_n 225 2 hC dX8_qJoins_225 rfl ?_
    refine gw_lload 226 0 hC dX8_qJoins_226 rfl ?_
    refine gw_lload_n 228 1 hC dX8_qJoins_228 rfl ?_
    obtain ⟨j47, ej47, h⟩ := bnd_e h
    have hj47 : ∀ (w44 : Int) (s45 : MS), j47 w44 s45 = some res → GW p l e (rmd 2) s m args below meth c 6 (mAd o) (MRp D o) (MK D) 0 res s45 238 [] [Lg w44, .ref o] := by
      clear h
      intro w44 s45 h
      subst ej47
      obtain ⟨z46, ez46, h⟩ := opt_e h
      refine gw_callV (As := [Lg w44]) (rest := []) (st' := []) 238 1 hC (met_qPuts ez46 l) (lw_V q2316 q2318 qs103 q161 q2319) (by decide +kernel) (by decide) (m_recv hC) rfl rfl (Nat.le_of_ble_eq_true rfl) dX8_qJoins_238 rfl ?_
      refine gw_goto 241 273 hC dX8_qJoins_241 (by decide) ?_
      exact gw_vret 273 hC dX8_qJoins_273 h
    refine gw_lcmp_ne 229 237 hC dX8_qJoins_229 dX8_qJoins_230 (by decide) (fun c48 => ?_) (fun c48 => ?_)
    · replace h := if_f h c48
      refine gw_lconst (v := 0) 237 hC dX8_qJoins_237 (by decide) ?_
      refine gw_sub [] rfl ?_
      exact hj47 _ _ h
    · replace h := if_t h c48
      refine gw_lconst (v := 1) 233 hC dX8_qJoins_233 (by decide) ?_
      refine gw_goto 234 238 hC dX8_qJoins_234 (by decide) ?_
      refine gw_sub [] rfl ?_
      exact hj47 _ _ h
  replace h := if_f h c43
  by_cases c49 : i32 a1 = 10
  · replace h := if_t h c49
    refine gw_tableIn 36 244 10 hC dX8_qJoins_36 c49 (by decide) (by decide) rfl (by decide) ?_
    refine gw_aload_n 244 2 hC dX8_qJoins_244 rfl ?_
    refine gw_lload 245 0 hC dX8_qJoins_245 rfl ?_
    refine gw_lload_n 247 1 hC dX8_qJoins_247 rfl ?_
    refine gw_lmul 248 hC dX8_qJoins_248 ?_
    obtain ⟨z50, ez50, h⟩ := opt_e h
    refine gw_callV (As := [Lg (x4_5 * x2_3)]) (rest := []) (st' := []) 249 1 hC (met_qPuts ez50 l) (lw_V q2316 q2318 qs103 q161 q2319) (by decide +kernel) (by decide) (m_recv hC) rfl rfl (Nat.le_of_ble_eq_true rfl) dX8_qJoins_249 rfl ?_
    refine gw_goto 252 273 hC dX8_qJoins_252 (by decide) ?_
    exact gw_vret 273 hC dX8_qJoins_273 h
  replace h := if_f h c49
  refine gw_tableOut 36 255 hC dX8_qJoins_36 (by omega) (by decide) ?_
  refine gw_aload_n 255 2 hC dX8_qJoins_255 rfl ?_
  refine gw_lload 256 0 hC dX8_qJoins_256 rfl ?_
  refine gw_lload_n 258 1 hC dX8_qJoins_258 rfl ?_
  refine gw_ladd 259 hC dX8_qJoins_259 ?_
  refine gw_lconst (v := 0) 260 hC dX8_qJoins_260 (by decide) ?_
  obtain ⟨j54, ej54, h⟩ := bnd_e h
  have hj54 : ∀ (w51 : Int) (s52 : MS), j54 w51 s52 = some res → GW p l e (rmd 2) s m args below meth c 6 (mAd o) (MRp D o) (MK D) 0 res s52 270 [] [Lg w51, .ref o] := by
    clear h
    intro w51 s52 h
    subst ej54
    obtain ⟨z53, ez53, h⟩ := opt_e h
    refine gw_callV (As := [Lg w51]) (rest := []) (st' := []) 270 1 hC (met_qPuts ez53 l) (lw_V q2316 q2318 qs103 q161 q2319) (by decide +kernel) (by decide) (m_recv hC) rfl rfl (Nat.le_of_ble_eq_true rfl) dX8_qJoins_270 rfl ?_
    exact gw_vret 273 hC dX8_qJoins_273 h
  refine gw_lcmp_le 261 269 hC dX8_qJoins_261 dX8_qJoins_262 (by decide) (fun c55 => ?_) (fun c55 => ?_)
  · replace h := if_t h c55
    refine gw_lconst (v := 0) 269 hC dX8_qJoins_269 (by decide) ?_
    refine gw_sub [] rfl ?_
    exact hj54 _ _ h
  · replace h := if_f h c55
    refine gw_lconst (v := 1) 265 hC dX8_qJoins_265 (by decide) ?_
    refine gw_goto 266 270 hC dX8_qJoins_266 (by decide) ?_
    refine gw_sub [] rfl ?_
    exact hj54 _ _ h
/-! codesTell(III)J -/
noncomputable def m_codesTell_L25 (k158 : MS → Option (Int × MS)) : Nat → Int → Int → Int → MS → Option (Int × MS)
  | 0, _, _, _, _ => none
  | n + 1, x1_9, x2_10, x4_11, s12 =>
    gd (ok 6 (3 + x1_9)) <|
    if i32 (s12 42 (i32 (3 + x1_9))) ≤ i32 x4_11 then
      k158 s12
    else
      gd (ok 3200 (1600 + x4_11)) <|
      bnd (s12 43 (i32 (1600 + x4_11))) fun x5_17 =>
      bnd (fun (x1_18 : Int) (x2_19 : Int) (x4_20 : Int) (s21 : MS) =>
          bnd (x4_20 + 1) fun x4_22 =>
          m_codesTell_L25 k158 n x1_18 x2_19 x4_22 s21) fun j23 =>
      if i32 x5_17 < i32 1000 then
        if i32 x5_17 < i32 40 then
          if i32 x5_17 = i32 13 then
            Option.bind (m_qPuts 1 s12) fun z32 =>
            j23 x1_9 x2_10 x4_11 z32.2
          else
            if i32 x5_17 = i32 12 then
              gd (ok 1700 ((s12 103 0) - 1)) <|
              gd (ok 1700 ((s12 103 0) - 1)) <|
              bnd (up s12 102 (i32 ((s12 103 0) - 1)) (1 - (s12 102 (i32 ((s12 103 0) - 1))))) fun s31 =>
              j23 x1_9 x2_10 x4_11 s31
            else
              Option.bind (m_qJoins x5_17 s12) fun z28 =>
              j23 x1_9 x2_10 x4_11 z28.2
        else
          Option.bind (m_qPartOf (x5_17 - 40) x2_10 s12) fun z33 =>
          Option.bind (m_qPuts z33.1 z33.2) fun z34 =>
          j23 x1_9 x2_10 x4_11 z34.2
      else
        Option.bind (m_qPuts (i32 (x5_17 - 1000)) s12) fun z35 =>
        j23 x1_9 x2_10 x4_11 z35.2
noncomputable def m_codesTell (a1 : Int) (a2 : Int) (a3 : Int) (s0 : MS) : Option (Int × MS) :=
  bnd (up s0 47 0 0) fun s4 =>
  bnd (up s4 50 0 a3) fun s5 =>
  bnd (up s5 103 0 0) fun s6 =>
  gd (ok 6 (3 + a1)) <|
  bnd (s6 41 (i32 (3 + a1))) fun x4_8 =>
  m_codesTell_L25
    (fun (s36 : MS) =>
      gd (ok 1700 0) <|
      some ((s36 102 (i32 0)), s36))
    FU a1 a2 x4_8 s6
theorem wm_codesTell_L25 {p : Program} {l : Launch} {e : Env} {s : State} {m : MethodId} {args : Array Value} {below : List Frame} {meth : Method} {c : Code} {D : MD} {o : Nat} {res : Int × MS} {k158 : MS → Option (Int × MS)} (hC : GC p s m args meth c cX8_codesTell RX8 6 (some .long) (MK D)) (hk158 : ∀ (s13 : MS), k158 s13 = some res → GW p l e (rmd 3) s m args below meth c 6 (mAd o) (MRp D o) (MK D) 2 res s13 158 [(0, .ref o)] []) : ∀ (n : Nat) (x1_9 : Int) (x2_10 : Int) (x4_11 : Int) (s12 : MS), m_codesTell_L25 k158 n x1_9 x2_10 x4_11 s12 = some res → GW p l e (rmd 3) s m args below meth c 6 (mAd o) (MRp D o) (MK D) 2 res s12 25 [(0, .ref o), (1, J x1_9), (2, J x2_10), (4, J x4_11)] [] := by
  intro n
  induction n with
  | zero =>
    intro x1_9 x2_10 x4_11 s12 h
    cases h
  | succ n ih =>
    intro x1_9 x2_10 x4_11 s12 h
    rw [m_codesTell_L25] at h
    refine gw_iload 25 3 hC dX8_codesTell_25 rfl ?_
    refine gw_aload_n 27 0 hC dX8_codesTell_27 rfl ?_
    refine mg_42 28 hC dX8_codesTell_28 ?_
    refine gw_iconst 31 hC dX8_codesTell_31 ?_
    refine gw_iload_n 32 1 hC dX8_codesTell_32 rfl ?_
    refine gw_iadd 33 hC dX8_codesTell_33 ?_
    obtain ⟨g14, h⟩ := gd_e h
    refine m_iald 34 42 hC (by decide) rfl g14 dX8_codesTell_34 ?_
    refine gw_icmp_ge 35 158 hC dX8_codesTell_35 (by decide) (fun c15 => ?_) (fun c15 => ?_)
    · replace h := if_t h c15
      refine gw_sub [0] rfl ?_
      exact hk158 _ h
    · replace h := if_f h c15
      refine gw_aload_n 38 0 hC dX8_codesTell_38 rfl ?_
      refine mg_43 39 hC dX8_codesTell_39 ?_
      refine gw_sipush 42 hC dX8_codesTell_42 (by decide) ?_
      refine gw_iload 45 3 hC dX8_codesTell_45 rfl ?_
      refine gw_iadd 47 hC dX8_codesTell_47 ?_
      obtain ⟨g16, h⟩ := gd_e h
      refine m_iald 48 43 hC (by decide) rfl g16 dX8_codesTell_48 ?_
      obtain ⟨x5_17, ex5_17, h⟩ := bnd_e h
      refine gw_istore 49 [(5, J x5_17), (0, .ref o), (1, J x1_9), (2, J x2_10), (4, J x4_11)] hC dX8_codesTell_49 (by decide) ex5_17 rfl ?_
      refine gw_iload 51 0 hC dX8_codesTell_51 rfl ?_
      refine gw_sipush 53 hC dX8_codesTell_53 (by decide) ?_
      obtain ⟨j23, ej23, h⟩ := bnd_e h
      have hj23 : ∀ (x1_18 : Int) (x2_19 : Int) (x4_20 : Int) (s21 : MS), j23 x1_18 x2_19 x4_20 s21 = some res → GW p l e (rmd 3) s m args below meth c 6 (mAd o) (MRp D o) (MK D) 2 res s21 152 [(0, .ref o), (1, J x1_18), (2, J x2_19), (4, J x4_20)] [] := by
        clear h
        intro x1_18 x2_19 x4_20 s21 h
        subst ej23
        obtain ⟨x4_22, ex4_22, h⟩ := bnd_e h
        refine gw_iinc 152 3 [(4, J x4_22), (0, .ref o), (1, J x1_18), (2, J x2_19)] hC dX8_codesTell_152 rfl ex4_22 (by decide) rfl ?_
        refine gw_goto 155 25 hC dX8_codesTell_155 (by decide) ?_
        refine gw_sub [1, 2, 3, 0] rfl ?_
        exact ih _ _ _ _ h
      refine gw_icmp_lt 56 73 hC dX8_codesTell_56 (by decide) (fun c24 => ?_) (fun c24 => ?_)
      · replace h := if_t h c24
        refine gw_iload 73 0 hC dX8_codesTell_73 rfl ?_
        refine gw_bipush 75 hC dX8_codesTell_75 (by decide) ?_
        refine gw_icmp_lt 77 97 hC dX8_codesTell_77 (by decide) (fun c25 => ?_) (fun c25 => ?_)
        · replace h := if_t h c25
          refine gw_iload 97 0 hC dX8_codesTell_97 rfl ?_
          refine gw_bipush 99 hC dX8_codesTell_99 (by decide) ?_
          refine gw_icmp_ne 101 112 hC dX8_codesTell_101 (by decide) (fun c26 => ?_) (fun c26 => ?_)
          · replace h := if_f h c26
            refine gw_iload 112 0 hC dX8_codesTell_112 rfl ?_
            refine gw_bipush 114 hC dX8_codesTell_114 (by decide) ?_
            refine gw_icmp_ne 116 146 hC dX8_codesTell_116 (by decide) (fun c27 => ?_) (fun c27 => ?_)
            · replace h := if_f h c27
              refine gw_aload_n 146 1 hC dX8_codesTell_146 rfl ?_
              refine gw_iload 147 0 hC dX8_codesTell_147 rfl ?_
              obtain ⟨z28, ez28, h⟩ := opt_e h
              refine gw_callV (As := [J x5_17]) (rest := []) (st' := []) 149 1 hC (met_qJoins ez28 l) (lw_V q2337 q2339 qs108 q161 q2340) (by decide +kernel) (by decide) (m_recv hC) rfl rfl (Nat.le_of_ble_eq_true rfl) dX8_codesTell_149 rfl ?_
              refine gw_sub [1, 2, 3, 4] rfl ?_
              exact hj23 _ _ _ _ h
            · replace h := if_t h c27
              refine gw_aload_n 119 1 hC dX8_codesTell_119 rfl ?_
              refine mg_102 120 hC dX8_codesTell_120 ?_
              refine gw_aload_n 123 1 hC dX8_codesTell_123 rfl ?_
              refine mg_103 124 hC dX8_codesTell_124 ?_
              refine gw_iconst 127 hC dX8_codesTell_127 ?_
              refine gw_isub 128 hC dX8_codesTell_128 ?_
              refine gw_lconst (v := 1) 129 hC dX8_codesTell_129 (by decide) ?_
              refine gw_aload_n 130 1 hC dX8_codesTell_130 rfl ?_
              refine mg_102 131 hC dX8_codesTell_131 ?_
              refine gw_aload_n 134 1 hC dX8_codesTell_134 rfl ?_
              refine mg_103 135 hC dX8_codesTell_135 ?_
              refine gw_iconst 138 hC dX8_codesTell_138 ?_
              refine gw_isub 139 hC dX8_codesTell_139 ?_
              obtain ⟨g29, h⟩ := gd_e h
              refine m_lald 140 102 hC (by decide) rfl g29 dX8_codesTell_140 ?_
              refine gw_lsub 141 hC dX8_codesTell_141 ?_
              obtain ⟨g30, h⟩ := gd_e h
              obtain ⟨s31, es31, h⟩ := bnd_e h
              refine m_last 142 102 hC (MIn_self o) (by decide) rfl g30 es31 dX8_codesTell_142 ?_
              refine gw_goto 143 152 hC dX8_codesTell_143 (by decide) ?_
              refine gw_sub [1, 2, 3, 4] rfl ?_
              exact hj23 _ _ _ _ h
          · replace h := if_t h c26
            refine gw_aload_n 104 1 hC dX8_codesTell_104 rfl ?_
            refine gw_lconst (v := 1) 105 hC dX8_codesTell_105 (by decide) ?_
            obtain ⟨z32, ez32, h⟩ := opt_e h
            refine gw_callV (As := [Lg 1]) (rest := []) (st' := []) 106 1 hC (met_qPuts ez32 l) (lw_V q2316 q2318 qs103 q161 q2319) (by decide +kernel) (by decide) (m_recv hC) rfl rfl (Nat.le_of_ble_eq_true rfl) dX8_codesTell_106 rfl ?_
            refine gw_goto 109 152 hC dX8_codesTell_109 (by decide) ?_
            refine gw_sub [1, 2, 3, 4] rfl ?_
            exact hj23 _ _ _ _ h
        · replace h := if_f h c25
          refine gw_aload_n 80 1 hC dX8_codesTell_80 rfl ?_
          refine gw_aload_n 81 1 hC dX8_codesTell_81 rfl ?_
          refine gw_iload 82 0 hC dX8_codesTell_82 rfl ?_
          refine gw_bipush 84 hC dX8_codesTell_84 (by decide) ?_
          refine gw_isub 86 hC dX8_codesTell_86 ?_
          refine gw_iload_n 87 3 hC dX8_codesTell_87 rfl ?_
          obtain ⟨z33, ez33, h⟩ := opt_e h
          refine gw_callV (As := [J (x5_17 - 40), J x2_10]) (rest := [.ref o]) (st' := [Lg z33.1, .ref o]) 88 2 hC (met_qPartOf ez33 l) (lw_V q2320 q2322 qs104 q161 q2323) (by decide +kernel) (by decide) (m_recv hC) rfl rfl (Nat.le_of_ble_eq_true rfl) dX8_codesTell_88 rfl ?_
          obtain ⟨z34, ez34, h⟩ := opt_e h
          refine gw_callV (As := [Lg z33.1]) (rest := []) (st' := []) 91 1 hC (met_qPuts ez34 l) (lw_V q2316 q2318 qs103 q161 q2319) (by decide +kernel) (by decide) (m_recv hC) rfl rfl (Nat.le_of_ble_eq_true rfl) dX8_codesTell_91 rfl ?_
          refine gw_goto 94 152 hC dX8_codesTell_94 (by decide) ?_
          refine gw_sub [1, 2, 3, 4] rfl ?_
          exact hj23 _ _ _ _ h
      · replace h := if_f h c24
        refine gw_aload_n 59 1 hC dX8_codesTell_59 rfl ?_
        refine gw_iload 60 0 hC dX8_codesTell_60 rfl ?_
        refine gw_sipush 62 hC dX8_codesTell_62 (by decide) ?_
        refine gw_isub 65 hC dX8_codesTell_65 ?_
        refine gw_i2l 66 hC dX8_codesTell_66 ?_
        obtain ⟨z35, ez35, h⟩ := opt_e h
        refine gw_callV (As := [Lg (i32 (x5_17 - 1000))]) (rest := []) (st' := []) 67 1 hC (met_qPuts ez35 l) (lw_V q2316 q2318 qs103 q161 q2319) (by decide +kernel) (by decide) (m_recv hC) rfl rfl (Nat.le_of_ble_eq_true rfl) dX8_codesTell_67 rfl ?_
        refine gw_goto 70 152 hC dX8_codesTell_70 (by decide) ?_
        refine gw_sub [1, 2, 3, 4] rfl ?_
        exact hj23 _ _ _ _ h
theorem met_codesTell {D : MD} {o : Nat} {a1 : Int} {a2 : Int} {a3 : Int} {s0 : MS} {res : Int × MS} (h : m_codesTell a1 a2 a3 s0 = some res) (l : Launch) : GMet l yX8_codesTell cX8_codesTell 6 (some .long) 3 (MRp D o) (MK D) (mAd o) [.ref o, J a1, J a2, J a3] s0 2 res := by
  refine GMet.of [(0, .ref o), (1, J a1), (2, J a2), (3, J a3)] (by decide) (MK_moved D) (Nat.le_of_ble_eq_true rfl) rfl ?_
  intro p e s m args below meth c hC
  have hC : GC p s m args meth c cX8_codesTell RX8 6 (some .long) (MK D) := hC
  unfold m_codesTell at h
  refine gw_aload_n 0 0 hC dX8_codesTell_0 rfl ?_
  refine gw_iconst 1 hC dX8_codesTell_1 ?_
  obtain ⟨s4, es4, h⟩ := bnd_e h
  refine mp_47 2 hC (MIn_self o) es4 dX8_codesTell_2 ?_
  refine gw_aload_n 5 0 hC dX8_codesTell_5 rfl ?_
  refine gw_iload_n 6 3 hC dX8_codesTell_6 rfl ?_
  obtain ⟨s5, es5, h⟩ := bnd_e h
  refine mp_50 7 hC (MIn_self o) es5 dX8_codesTell_7 ?_
  refine gw_aload_n 10 0 hC dX8_codesTell_10 rfl ?_
  refine gw_iconst 11 hC dX8_codesTell_11 ?_
  obtain ⟨s6, es6, h⟩ := bnd_e h
  refine mp_103 12 hC (MIn_self o) es6 dX8_codesTell_12 ?_
  refine gw_aload_n 15 0 hC dX8_codesTell_15 rfl ?_
  refine mg_41 16 hC dX8_codesTell_16 ?_
  refine gw_iconst 19 hC dX8_codesTell_19 ?_
  refine gw_iload_n 20 1 hC dX8_codesTell_20 rfl ?_
  refine gw_iadd 21 hC dX8_codesTell_21 ?_
  obtain ⟨g7, h⟩ := gd_e h
  refine m_iald 22 41 hC (by decide) rfl g7 dX8_codesTell_22 ?_
  obtain ⟨x4_8, ex4_8, h⟩ := bnd_e h
  refine gw_istore 23 [(4, J x4_8), (0, .ref o), (1, J a1), (2, J a2), (3, J a3)] hC dX8_codesTell_23 (by decide) ex4_8 rfl ?_
  refine gw_sub [1, 2, 3, 0] rfl ?_
  refine wm_codesTell_L25 hC (fun s36 h => ?_) FU _ _ _ _ h
  · refine gw_aload_n 158 0 hC dX8_codesTell_158 rfl ?_
    refine mg_102 159 hC dX8_codesTell_159 ?_
    refine gw_iconst 162 hC dX8_codesTell_162 ?_
    obtain ⟨g37, h⟩ := gd_e h
    refine m_lald 163 102 hC (by decide) rfl g37 dX8_codesTell_163 ?_
    exact gw_lret 164 hC dX8_codesTell_164 h
/-! canTake(II)Z -/
noncomputable def m_canTake (a1 : Int) (a2 : Int) (s0 : MS) : Option (Int × MS) :=
  gd (ok 6 3) <|
  bnd (fun (s4 : MS) =>
      some (1, s4)) fun j5 =>
  if i32 (s0 41 (i32 3)) = i32 (-1) then
    j5 s0
  else
    Option.bind (m_codesTell 0 a1 a2 s0) fun z7 =>
    if i64 z7.1 = i64 1 then
      j5 z7.2
    else
      some (0, z7.2)
theorem met_canTake {D : MD} {o : Nat} {a1 : Int} {a2 : Int} {s0 : MS} {res : Int × MS} (h : m_canTake a1 a2 s0 = some res) (l : Launch) : GMet l yX8_canTake cX8_canTake 3 (some .boolean) 4 (MRp D o) (MK D) (mAd o) [.ref o, J a1, J a2] s0 1 res := by
  refine GMet.of [(0, .ref o), (1, J a1), (2, J a2)] (by decide) (MK_moved D) (Nat.le_of_ble_eq_true rfl) rfl ?_
  intro p e s m args below meth c hC
  have hC : GC p s m args meth c cX8_canTake RX8 3 (some .boolean) (MK D) := hC
  unfold m_canTake at h
  refine gw_aload_n 0 0 hC dX8_canTake_0 rfl ?_
  refine mg_41 1 hC dX8_canTake_1 ?_
  refine gw_iconst 4 hC dX8_canTake_4 ?_
  obtain ⟨g3, h⟩ := gd_e h
  refine m_iald 5 41 hC (by decide) rfl g3 dX8_canTake_5 ?_
  refine gw_iconst 6 hC dX8_canTake_6 ?_
  obtain ⟨j5, ej5, h⟩ := bnd_e h
  have hj5 : ∀ (s4 : MS), j5 s4 = some res → GW p l e (rmd 4) s m args below meth c 3 (mAd o) (MRp D o) (MK D) 1 res s4 22 [] [] := by
    clear h
    intro s4 h
    subst ej5
    refine gw_iconst 22 hC dX8_canTake_22 ?_
    refine gw_goto 23 27 hC dX8_canTake_23 (by decide) ?_
    exact gw_zret 27 hC dX8_canTake_27 (by decide) h
  refine gw_icmp_eq 7 22 hC dX8_canTake_7 (by decide) (fun c6 => ?_) (fun c6 => ?_)
  · replace h := if_t h c6
    refine gw_sub [] rfl ?_
    exact hj5 _ h
  · replace h := if_f h c6
    refine gw_aload_n 10 0 hC dX8_canTake_10 rfl ?_
    refine gw_iconst 11 hC dX8_canTake_11 ?_
    refine gw_iload_n 12 1 hC dX8_canTake_12 rfl ?_
    refine gw_iload_n 13 2 hC dX8_canTake_13 rfl ?_
    obtain ⟨z7, ez7, h⟩ := opt_e h
    refine gw_callV (As := [J 0, J a1, J a2]) (rest := []) (st' := [Lg z7.1]) 14 3 hC (met_codesTell ez7 l) (lw_V q2312 q2314 qs102 q161 q2315) (by decide +kernel) (by decide) (m_recv hC) rfl rfl (Nat.le_of_ble_eq_true rfl) dX8_canTake_14 rfl ?_
    refine gw_lconst (v := 1) 17 hC dX8_canTake_17 (by decide) ?_
    refine gw_lcmp_ne 18 26 hC dX8_canTake_18 dX8_canTake_19 (by decide) (fun c8 => ?_) (fun c8 => ?_)
    · replace h := if_f h c8
      refine gw_iconst 26 hC dX8_canTake_26 ?_
      exact gw_zret 27 hC dX8_canTake_27 (by decide) h
    · replace h := if_t h c8
      refine gw_sub [] rfl ?_
      exact hj5 _ h
/-! wellOf(II)J -/
noncomputable def m_wellOf (a1 : Int) (a2 : Int) (s0 : MS) : Option (Int × MS) :=
  gd (ok 6 4) <|
  if i32 (s0 41 (i32 4)) = i32 (-1) then
    gd (ok 28 (15 + (2 * a2))) <|
    some ((i32 (s0 39 (i32 (15 + (2 * a2))))), s0)
  else
    Option.bind (m_codesTell 1 a1 a2 s0) fun z5 =>
    some (z5.1, z5.2)
theorem met_wellOf {D : MD} {o : Nat} {a1 : Int} {a2 : Int} {s0 : MS} {res : Int × MS} (h : m_wellOf a1 a2 s0 = some res) (l : Launch) : GMet l yX8_wellOf cX8_wellOf 3 (some .long) 4 (MRp D o) (MK D) (mAd o) [.ref o, J a1, J a2] s0 2 res := by
  refine GMet.of [(0, .ref o), (1, J a1), (2, J a2)] (by decide) (MK_moved D) (Nat.le_of_ble_eq_true rfl) rfl ?_
  intro p e s m args below meth c hC
  have hC : GC p s m args meth c cX8_wellOf RX8 3 (some .long) (MK D) := hC
  unfold m_wellOf at h
  refine gw_aload_n 0 0 hC dX8_wellOf_0 rfl ?_
  refine mg_41 1 hC dX8_wellOf_1 ?_
  refine gw_iconst 4 hC dX8_wellOf_4 ?_
  obtain ⟨g3, h⟩ := gd_e h
  refine m_iald 5 41 hC (by decide) rfl g3 dX8_wellOf_5 ?_
  refine gw_iconst 6 hC dX8_wellOf_6 ?_
  refine gw_icmp_ne 7 25 hC dX8_wellOf_7 (by decide) (fun c4 => ?_) (fun c4 => ?_)
  · replace h := if_f h c4
    refine gw_aload_n 25 0 hC dX8_wellOf_25 rfl ?_
    refine gw_iconst 26 hC dX8_wellOf_26 ?_
    refine gw_iload_n 27 1 hC dX8_wellOf_27 rfl ?_
    refine gw_iload_n 28 2 hC dX8_wellOf_28 rfl ?_
    obtain ⟨z5, ez5, h⟩ := opt_e h
    refine gw_callV (As := [J 1, J a1, J a2]) (rest := []) (st' := [Lg z5.1]) 29 3 hC (met_codesTell ez5 l) (lw_V q2312 q2314 qs102 q161 q2315) (by decide +kernel) (by decide) (m_recv hC) rfl rfl (Nat.le_of_ble_eq_true rfl) dX8_wellOf_29 rfl ?_
    exact gw_lret 32 hC dX8_wellOf_32 h
  · replace h := if_t h c4
    refine gw_aload_n 10 0 hC dX8_wellOf_10 rfl ?_
    refine mg_39 11 hC dX8_wellOf_11 ?_
    refine gw_bipush 14 hC dX8_wellOf_14 (by decide) ?_
    refine gw_iconst 16 hC dX8_wellOf_16 ?_
    refine gw_iload_n 17 2 hC dX8_wellOf_17 rfl ?_
    refine gw_imul 18 hC dX8_wellOf_18 ?_
    refine gw_iadd 19 hC dX8_wellOf_19 ?_
    obtain ⟨g6, h⟩ := gd_e h
    refine m_iald 20 39 hC (by decide) rfl g6 dX8_wellOf_20 ?_
    refine gw_i2l 21 hC dX8_wellOf_21 ?_
    refine gw_goto 22 32 hC dX8_wellOf_22 (by decide) ?_
    exact gw_lret 32 hC dX8_wellOf_32 h
/-! laysPairs()V -/
noncomputable def m_laysPairs_L12 (k60 : Int → MS → Option (Int × MS)) : Nat → Int → Int → MS → Option (Int × MS)
  | 0, _, _, _ => none
  | n + 1, x1_8, x2_9, s10 =>
    Option.bind (m_verbMany s10) fun z13 =>
    if i32 z13.1 ≤ i32 x2_9 then
      k60 x1_8 z13.2
    else
      Option.bind (m_canTake x1_8 x2_9 z13.2) fun z15 =>
      gd (ok 42 ((7 * x1_8) + x2_9)) <|
      gd (bz z15.1) <|
      bnd (up z15.2 52 (i32 ((7 * x1_8) + x2_9)) z15.1) fun s18 =>
      Option.bind (m_wellOf x1_8 x2_9 s18) fun z19 =>
      gd (ok 42 ((7 * x1_8) + x2_9)) <|
      bnd (up z19.2 51 (i32 ((7 * x1_8) + x2_9)) z19.1) fun s21 =>
      bnd (x2_9 + 1) fun x2_22 =>
      m_laysPairs_L12 k60 n x1_8 x2_22 s21
noncomputable def m_laysPairs_L2 (k66 : MS → Option (Int × MS)) : Nat → Int → MS → Option (Int × MS)
  | 0, _, _ => none
  | n + 1, x1_2, s3 =>
    Option.bind (m_sayingMany s3) fun z5 =>
    if i32 z5.1 ≤ i32 x1_2 then
      k66 z5.2
    else
      bnd 0 fun x2_7 =>
      m_laysPairs_L12
        (fun (x1_23 : Int) (s24 : MS) =>
          bnd (x1_23 + 1) fun x1_25 =>
          m_laysPairs_L2 k66 n x1_25 s24)
        FU x1_2 x2_7 z5.2
noncomputable def m_laysPairs (s0 : MS) : Option (Int × MS) :=
  bnd 0 fun x1_1 =>
  m_laysPairs_L2
    (fun (s26 : MS) =>
      some (0, s26))
    FU x1_1 s0
theorem wm_laysPairs_L12 {p : Program} {l : Launch} {e : Env} {s : State} {m : MethodId} {args : Array Value} {below : List Frame} {meth : Method} {c : Code} {D : MD} {o : Nat} {res : Int × MS} {k60 : Int → MS → Option (Int × MS)} (hC : GC p s m args meth c cX8_laysPairs RX8 3 none (MK D)) (hk60 : ∀ (x1_11 : Int) (s12 : MS), k60 x1_11 s12 = some res → GW p l e (rmd 5) s m args below meth c 3 (mAd o) (MRp D o) (MK D) 0 res s12 60 [(0, .ref o), (1, J x1_11)] []) : ∀ (n : Nat) (x1_8 : Int) (x2_9 : Int) (s10 : MS), m_laysPairs_L12 k60 n x1_8 x2_9 s10 = some res → GW p l e (rmd 5) s m args below meth c 3 (mAd o) (MRp D o) (MK D) 0 res s10 12 [(0, .ref o), (1, J x1_8), (2, J x2_9)] [] := by
  intro n
  induction n with
  | zero =>
    intro x1_8 x2_9 s10 h
    cases h
  | succ n ih =>
    intro x1_8 x2_9 s10 h
    rw [m_laysPairs_L12] at h
    refine gw_iload_n 12 2 hC dX8_laysPairs_12 rfl ?_
    refine gw_aload_n 13 0 hC dX8_laysPairs_13 rfl ?_
    obtain ⟨z13, ez13, h⟩ := opt_e h
    refine gw_callV (As := []) (rest := [J x2_9]) (st' := [J z13.1, J x2_9]) 14 0 hC (met_verbMany ez13 l) (lw_V q2259 q2261 qs92 q161 q2262) (by decide +kernel) (by decide) (m_recv hC) rfl rfl (Nat.le_of_ble_eq_true rfl) dX8_laysPairs_14 rfl ?_
    refine gw_icmp_ge 17 60 hC dX8_laysPairs_17 (by decide) (fun c14 => ?_) (fun c14 => ?_)
    · replace h := if_t h c14
      refine gw_sub [0, 1] rfl ?_
      exact hk60 _ _ h
    · replace h := if_f h c14
      refine gw_aload_n 20 0 hC dX8_laysPairs_20 rfl ?_
      refine mg_52 21 hC dX8_laysPairs_21 ?_
      refine gw_bipush 24 hC dX8_laysPairs_24 (by decide) ?_
      refine gw_iload_n 26 1 hC dX8_laysPairs_26 rfl ?_
      refine gw_imul 27 hC dX8_laysPairs_27 ?_
      refine gw_iload_n 28 2 hC dX8_laysPairs_28 rfl ?_
      refine gw_iadd 29 hC dX8_laysPairs_29 ?_
      refine gw_aload_n 30 0 hC dX8_laysPairs_30 rfl ?_
      refine gw_iload_n 31 1 hC dX8_laysPairs_31 rfl ?_
      refine gw_iload_n 32 2 hC dX8_laysPairs_32 rfl ?_
      obtain ⟨z15, ez15, h⟩ := opt_e h
      refine gw_callV (As := [J x1_8, J x2_9]) (rest := [J ((7 * x1_8) + x2_9), .ref (o + mO 52)]) (st' := [J z15.1, J ((7 * x1_8) + x2_9), .ref (o + mO 52)]) 33 2 hC (met_canTake ez15 l) (lw_V q2308 q2310 qs101 q161 q2311) (by decide +kernel) (by decide) (m_recv hC) rfl rfl (Nat.le_of_ble_eq_true rfl) dX8_laysPairs_33 rfl ?_
      obtain ⟨g16, h⟩ := gd_e h
      obtain ⟨g17, h⟩ := gd_e h
      obtain ⟨s18, es18, h⟩ := bnd_e h
      refine m_zast 36 52 hC (MIn_self o) (by decide) rfl g16 g17 es18 dX8_laysPairs_36 ?_
      refine gw_aload_n 37 0 hC dX8_laysPairs_37 rfl ?_
      refine mg_51 38 hC dX8_laysPairs_38 ?_
      refine gw_bipush 41 hC dX8_laysPairs_41 (by decide) ?_
      refine gw_iload_n 43 1 hC dX8_laysPairs_43 rfl ?_
      refine gw_imul 44 hC dX8_laysPairs_44 ?_
      refine gw_iload_n 45 2 hC dX8_laysPairs_45 rfl ?_
      refine gw_iadd 46 hC dX8_laysPairs_46 ?_
      refine gw_aload_n 47 0 hC dX8_laysPairs_47 rfl ?_
      refine gw_iload_n 48 1 hC dX8_laysPairs_48 rfl ?_
      refine gw_iload_n 49 2 hC dX8_laysPairs_49 rfl ?_
      obtain ⟨z19, ez19, h⟩ := opt_e h
      refine gw_callV (As := [J x1_8, J x2_9]) (rest := [J ((7 * x1_8) + x2_9), .ref (o + mO 51)]) (st' := [Lg z19.1, J ((7 * x1_8) + x2_9), .ref (o + mO 51)]) 50 2 hC (met_wellOf ez19 l) (lw_V q2349 q2351 qs109 q161 q2352) (by decide +kernel) (by decide) (m_recv hC) rfl rfl (Nat.le_of_ble_eq_true rfl) dX8_laysPairs_50 rfl ?_
      obtain ⟨g20, h⟩ := gd_e h
      obtain ⟨s21, es21, h⟩ := bnd_e h
      refine m_last 53 51 hC (MIn_self o) (by decide) rfl g20 es21 dX8_laysPairs_53 ?_
      obtain ⟨x2_22, ex2_22, h⟩ := bnd_e h
      refine gw_iinc 54 2 [(2, J x2_22), (0, .ref o), (1, J x1_8)] hC dX8_laysPairs_54 rfl ex2_22 (by decide) rfl ?_
      refine gw_goto 57 12 hC dX8_laysPairs_57 (by decide) ?_
      refine gw_sub [1, 2, 0] rfl ?_
      exact ih _ _ _ h
theorem wm_laysPairs_L2 {p : Program} {l : Launch} {e : Env} {s : State} {m : MethodId} {args : Array Value} {below : List Frame} {meth : Method} {c : Code} {D : MD} {o : Nat} {res : Int × MS} {k66 : MS → Option (Int × MS)} (hC : GC p s m args meth c cX8_laysPairs RX8 3 none (MK D)) (hk66 : ∀ (s4 : MS), k66 s4 = some res → GW p l e (rmd 5) s m args below meth c 3 (mAd o) (MRp D o) (MK D) 0 res s4 66 [] []) : ∀ (n : Nat) (x1_2 : Int) (s3 : MS), m_laysPairs_L2 k66 n x1_2 s3 = some res → GW p l e (rmd 5) s m args below meth c 3 (mAd o) (MRp D o) (MK D) 0 res s3 2 [(0, .ref o), (1, J x1_2)] [] := by
  intro n
  induction n with
  | zero =>
    intro x1_2 s3 h
    cases h
  | succ n ih =>
    intro x1_2 s3 h
    rw [m_laysPairs_L2] at h
    refine gw_iload_n 2 1 hC dX8_laysPairs_2 rfl ?_
    refine gw_aload_n 3 0 hC dX8_laysPairs_3 rfl ?_
    obtain ⟨z5, ez5, h⟩ := opt_e h
    refine gw_callV (As := []) (rest := [J x1_2]) (st' := [J z5.1, J x1_2]) 4 0 hC (met_sayingMany ez5 l) (lw_V q2278 q2280 qs96 q161 q2281) (by decide +kernel) (by decide) (m_recv hC) rfl rfl (Nat.le_of_ble_eq_true rfl) dX8_laysPairs_4 rfl ?_
    refine gw_icmp_ge 7 66 hC dX8_laysPairs_7 (by decide) (fun c6 => ?_) (fun c6 => ?_)
    · replace h := if_t h c6
      refine gw_sub [] rfl ?_
      exact hk66 _ h
    · replace h := if_f h c6
      refine gw_iconst 10 hC dX8_laysPairs_10 ?_
      obtain ⟨x2_7, ex2_7, h⟩ := bnd_e h
      refine gw_istore_n 11 [(2, J x2_7), (0, .ref o), (1, J x1_2)] hC dX8_laysPairs_11 (by decide) ex2_7 rfl ?_
      refine gw_sub [1, 2, 0] rfl ?_
      refine wm_laysPairs_L12 hC (fun x1_23 s24 h => ?_) FU _ _ _ h
      · obtain ⟨x1_25, ex1_25, h⟩ := bnd_e h
        refine gw_iinc 60 1 [(1, J x1_25), (0, .ref o)] hC dX8_laysPairs_60 rfl ex1_25 (by decide) rfl ?_
        refine gw_goto 63 2 hC dX8_laysPairs_63 (by decide) ?_
        refine gw_sub [1, 0] rfl ?_
        exact ih _ _ h
theorem met_laysPairs {D : MD} {o : Nat} {s0 : MS} {res : Int × MS} (h : m_laysPairs s0 = some res) (l : Launch) : GMet l yX8_laysPairs cX8_laysPairs 3 none 5 (MRp D o) (MK D) (mAd o) [.ref o] s0 0 res := by
  refine GMet.of [(0, .ref o)] (by decide) (MK_moved D) (Nat.le_of_ble_eq_true rfl) rfl ?_
  intro p e s m args below meth c hC
  have hC : GC p s m args meth c cX8_laysPairs RX8 3 none (MK D) := hC
  unfold m_laysPairs at h
  refine gw_iconst 0 hC dX8_laysPairs_0 ?_
  obtain ⟨x1_1, ex1_1, h⟩ := bnd_e h
  refine gw_istore_n 1 [(1, J x1_1), (0, .ref o)] hC dX8_laysPairs_1 (by decide) ex1_1 rfl ?_
  refine gw_sub [1, 0] rfl ?_
  refine wm_laysPairs_L2 hC (fun s26 h => ?_) FU _ _ h
  · exact gw_vret 66 hC dX8_laysPairs_66 h
/-! canBe(IIIZ)Z -/
noncomputable def m_canBe_L32 (k57 : MS → Option (Int × MS)) (k49 : MS → Option (Int × MS)) : Nat → Int → Int → Int → MS → Option (Int × MS)
  | 0, _, _, _, _ => none
  | n + 1, x1_10, x2_11, x5_12, s13 =>
    if i32 x1_10 ≤ i32 x5_12 then
      k57 s13
    else
      gd (ok 6 x5_12) <|
      if i32 (s13 53 (i32 x5_12)) = i32 x2_11 then
        k49 s13
      else
        bnd (x5_12 + 1) fun x5_19 =>
        m_canBe_L32 k57 k49 n x1_10 x2_11 x5_19 s13
noncomputable def m_canBe (a1 : Int) (a2 : Int) (a3 : Int) (a4 : Int) (s0 : MS) : Option (Int × MS) :=
  if i32 (iand (ishr a3 a2) 1) = 0 then
    some (0, s0)
  else
    bnd (fun (x1_6 : Int) (x2_7 : Int) (s8 : MS) =>
        bnd 0 fun x5_9 =>
        m_canBe_L32
          (fun (s20 : MS) =>
            some (1, s20))
          (fun (s21 : MS) =>
            some (0, s21))
          FU x1_6 x2_7 x5_9 s8) fun j22 =>
    if i32 a4 = 0 then
      j22 a1 a2 s0
    else
      gd (ok 42 ((7 * a1) + a2)) <|
      if i32 (s0 52 (i32 ((7 * a1) + a2))) = 0 then
        some (0, s0)
      else
        j22 a1 a2 s0
theorem wm_canBe_L32 {p : Program} {l : Launch} {e : Env} {s : State} {m : MethodId} {args : Array Value} {below : List Frame} {meth : Method} {c : Code} {D : MD} {o : Nat} {res : Int × MS} {k57 : MS → Option (Int × MS)} {k49 : MS → Option (Int × MS)} (hC : GC p s m args meth c cX8_canBe RX8 6 (some .boolean) (MK D)) (hk57 : ∀ (s14 : MS), k57 s14 = some res → GW p l e (rmd 1) s m args below meth c 6 (mAd o) (MRp D o) (MK D) 1 res s14 57 [] []) (hk49 : ∀ (s15 : MS), k49 s15 = some res → GW p l e (rmd 1) s m args below meth c 6 (mAd o) (MRp D o) (MK D) 1 res s15 49 [] []) : ∀ (n : Nat) (x1_10 : Int) (x2_11 : Int) (x5_12 : Int) (s13 : MS), m_canBe_L32 k57 k49 n x1_10 x2_11 x5_12 s13 = some res → GW p l e (rmd 1) s m args below meth c 6 (mAd o) (MRp D o) (MK D) 1 res s13 32 [(0, .ref o), (1, J x1_10), (2, J x2_11), (5, J x5_12)] [] := by
  intro n
  induction n with
  | zero =>
    intro x1_10 x2_11 x5_12 s13 h
    cases h
  | succ n ih =>
    intro x1_10 x2_11 x5_12 s13 h
    rw [m_canBe_L32] at h
    refine gw_iload 32 3 hC dX8_canBe_32 rfl ?_
    refine gw_iload_n 34 1 hC dX8_canBe_34 rfl ?_
    refine gw_icmp_ge 35 57 hC dX8_canBe_35 (by decide) (fun c16 => ?_) (fun c16 => ?_)
    · replace h := if_t h c16
      refine gw_sub [] rfl ?_
      exact hk57 _ h
    · replace h := if_f h c16
      refine gw_aload_n 38 0 hC dX8_canBe_38 rfl ?_
      refine mg_53 39 hC dX8_canBe_39 ?_
      refine gw_iload 42 3 hC dX8_canBe_42 rfl ?_
      obtain ⟨g17, h⟩ := gd_e h
      refine m_iald 44 53 hC (by decide) rfl g17 dX8_canBe_44 ?_
      refine gw_iload_n 45 2 hC dX8_canBe_45 rfl ?_
      refine gw_icmp_ne 46 51 hC dX8_canBe_46 (by decide) (fun c18 => ?_) (fun c18 => ?_)
      · replace h := if_f h c18
        obtain ⟨x5_19, ex5_19, h⟩ := bnd_e h
        refine gw_iinc 51 3 [(5, J x5_19), (0, .ref o), (1, J x1_10), (2, J x2_11)] hC dX8_canBe_51 rfl ex5_19 (by decide) rfl ?_
        refine gw_goto 54 32 hC dX8_canBe_54 (by decide) ?_
        refine gw_sub [1, 2, 3, 0] rfl ?_
        exact ih _ _ _ _ h
      · replace h := if_t h c18
        refine gw_sub [] rfl ?_
        exact hk49 _ h
theorem met_canBe {D : MD} {o : Nat} {a1 : Int} {a2 : Int} {a3 : Int} {a4 : Int} {s0 : MS} {res : Int × MS} (h : m_canBe a1 a2 a3 a4 s0 = some res) (l : Launch) : GMet l yX8_canBe cX8_canBe 6 (some .boolean) 1 (MRp D o) (MK D) (mAd o) [.ref o, J a1, J a2, J a3, J a4] s0 1 res := by
  refine GMet.of [(0, .ref o), (1, J a1), (2, J a2), (3, J a3), (4, J a4)] (by decide) (MK_moved D) (Nat.le_of_ble_eq_true rfl) rfl ?_
  intro p e s m args below meth c hC
  have hC : GC p s m args meth c cX8_canBe RX8 6 (some .boolean) (MK D) := hC
  unfold m_canBe at h
  refine gw_iload_n 0 3 hC dX8_canBe_0 rfl ?_
  refine gw_iload_n 1 2 hC dX8_canBe_1 rfl ?_
  refine gw_ishr 2 hC dX8_canBe_2 ?_
  refine gw_iconst 3 hC dX8_canBe_3 ?_
  refine gw_iand 4 hC dX8_canBe_4 ?_
  refine gw_if_eq 5 27 hC dX8_canBe_5 (by decide) (fun c5 => ?_) (fun c5 => ?_)
  · replace h := if_t h c5
    refine gw_iconst 27 hC dX8_canBe_27 ?_
    exact gw_zret 28 hC dX8_canBe_28 (by decide) h
  · replace h := if_f h c5
    refine gw_iload 8 4 hC dX8_canBe_8 rfl ?_
    obtain ⟨j22, ej22, h⟩ := bnd_e h
    have hj22 : ∀ (x1_6 : Int) (x2_7 : Int) (s8 : MS), j22 x1_6 x2_7 s8 = some res → GW p l e (rmd 1) s m args below meth c 6 (mAd o) (MRp D o) (MK D) 1 res s8 29 [(0, .ref o), (1, J x1_6), (2, J x2_7)] [] := by
      clear h
      intro x1_6 x2_7 s8 h
      subst ej22
      refine gw_iconst 29 hC dX8_canBe_29 ?_
      obtain ⟨x5_9, ex5_9, h⟩ := bnd_e h
      refine gw_istore 30 [(5, J x5_9), (0, .ref o), (1, J x1_6), (2, J x2_7)] hC dX8_canBe_30 (by decide) ex5_9 rfl ?_
      refine gw_sub [1, 2, 3, 0] rfl ?_
      refine wm_canBe_L32 hC (fun s20 h => ?_) (fun s21 h => ?_) FU _ _ _ _ h
      · refine gw_iconst 57 hC dX8_canBe_57 ?_
        exact gw_zret 58 hC dX8_canBe_58 (by decide) h
      · refine gw_iconst 49 hC dX8_canBe_49 ?_
        exact gw_zret 50 hC dX8_canBe_50 (by decide) h
    refine gw_if_eq 10 29 hC dX8_canBe_10 (by decide) (fun c23 => ?_) (fun c23 => ?_)
    · replace h := if_t h c23
      refine gw_sub [0, 1, 2] rfl ?_
      exact hj22 _ _ _ h
    · replace h := if_f h c23
      refine gw_aload_n 13 0 hC dX8_canBe_13 rfl ?_
      refine mg_52 14 hC dX8_canBe_14 ?_
      refine gw_bipush 17 hC dX8_canBe_17 (by decide) ?_
      refine gw_iload_n 19 1 hC dX8_canBe_19 rfl ?_
      refine gw_imul 20 hC dX8_canBe_20 ?_
      refine gw_iload_n 21 2 hC dX8_canBe_21 rfl ?_
      refine gw_iadd 22 hC dX8_canBe_22 ?_
      obtain ⟨g24, h⟩ := gd_e h
      refine m_zald 23 52 hC (by decide) rfl g24 dX8_canBe_23 ?_
      refine gw_if_ne 24 29 hC dX8_canBe_24 (by decide) (fun c25 => ?_) (fun c25 => ?_)
      · replace h := if_f h c25
        refine gw_sub [0, 1, 2] rfl ?_
        exact hj22 _ _ _ h
      · replace h := if_t h c25
        refine gw_iconst 27 hC dX8_canBe_27 ?_
        exact gw_zret 28 hC dX8_canBe_28 (by decide) h
/-! isNextRow(IIZ)Z -/
noncomputable def m_isNextRow_L19 (k65 : Int → Int → Int → MS → Option (Int × MS)) : Nat → Int → Int → Int → MS → Option (Int × MS)
  | 0, _, _, _, _ => none
  | n + 1, x2_14, x3_15, x4_16, s17 =>
    gd (ok 6 x4_16) <|
    Option.bind (m_verbMany s17) fun z23 =>
    if i32 z23.1 ≤ i32 (s17 53 (i32 x4_16)) then
      k65 x2_14 x3_15 x4_16 z23.2
    else
      gd (ok 6 x4_16) <|
      Option.bind (m_canBe x4_16 (z23.2 53 (i32 x4_16)) x2_14 x3_15 z23.2) fun z26 =>
      if i32 z26.1 = 0 then
        gd (ok 6 x4_16) <|
        gd (ok 6 x4_16) <|
        bnd (up z26.2 53 (i32 x4_16) ((z26.2 53 (i32 x4_16)) + 1)) fun s30 =>
        m_isNextRow_L19 k65 n x2_14 x3_15 x4_16 s30
      else
        k65 x2_14 x3_15 x4_16 z26.2
noncomputable def m_isNextRow_L3 (k112 : MS → Option (Int × MS)) (k96 : MS → Option (Int × MS)) : Nat → Int → Int → Int → MS → Option (Int × MS)
  | 0, _, _, _, _ => none
  | n + 1, x2_4, x3_5, x4_6, s7 =>
    if i32 x4_6 < 0 then
      k112 s7
    else
      gd (ok 6 x4_6) <|
      gd (ok 6 x4_6) <|
      bnd (up s7 53 (i32 x4_6) ((s7 53 (i32 x4_6)) + 1)) fun s13 =>
      m_isNextRow_L19
        (fun (x2_31 : Int) (x3_32 : Int) (x4_33 : Int) (s34 : MS) =>
          gd (ok 6 x4_33) <|
          Option.bind (m_verbMany s34) fun z36 =>
          if i32 (s34 53 (i32 x4_33)) = i32 z36.1 then
            bnd (x4_33 + (-1)) fun x4_43 =>
            m_isNextRow_L3 k112 k96 n x2_31 x3_32 x4_43 z36.2
          else
            Option.bind (m_sayingMany z36.2) fun z38 =>
            if i32 x4_33 = i32 (z38.1 - 1) then
              k96 z38.2
            else
              bnd (x4_33 + 1) fun x4_40 =>
              gd (ok 6 x4_40) <|
              bnd (up z38.2 53 (i32 x4_40) (-1)) fun s42 =>
              m_isNextRow_L3 k112 k96 n x2_31 x3_32 x4_40 s42)
        FU x2_4 x3_5 x4_6 s13
noncomputable def m_isNextRow (a1 : Int) (a2 : Int) (a3 : Int) (s0 : MS) : Option (Int × MS) :=
  m_isNextRow_L3
    (fun (s44 : MS) =>
      some (0, s44))
    (fun (s45 : MS) =>
      some (1, s45))
    FU a2 a3 a1 s0
theorem wm_isNextRow_L19 {p : Program} {l : Launch} {e : Env} {s : State} {m : MethodId} {args : Array Value} {below : List Frame} {meth : Method} {c : Code} {D : MD} {o : Nat} {res : Int × MS} {k65 : Int → Int → Int → MS → Option (Int × MS)} (hC : GC p s m args meth c cX8_isNextRow RX8 5 (some .boolean) (MK D)) (hk65 : ∀ (x2_18 : Int) (x3_19 : Int) (x4_20 : Int) (s21 : MS), k65 x2_18 x3_19 x4_20 s21 = some res → GW p l e (rmd 2) s m args below meth c 5 (mAd o) (MRp D o) (MK D) 1 res s21 65 [(0, .ref o), (2, J x2_18), (3, J x3_19), (4, J x4_20)] []) : ∀ (n : Nat) (x2_14 : Int) (x3_15 : Int) (x4_16 : Int) (s17 : MS), m_isNextRow_L19 k65 n x2_14 x3_15 x4_16 s17 = some res → GW p l e (rmd 2) s m args below meth c 5 (mAd o) (MRp D o) (MK D) 1 res s17 19 [(0, .ref o), (2, J x2_14), (3, J x3_15), (4, J x4_16)] [] := by
  intro n
  induction n with
  | zero =>
    intro x2_14 x3_15 x4_16 s17 h
    cases h
  | succ n ih =>
    intro x2_14 x3_15 x4_16 s17 h
    rw [m_isNextRow_L19] at h
    refine gw_aload_n 19 0 hC dX8_isNextRow_19 rfl ?_
    refine mg_53 20 hC dX8_isNextRow_20 ?_
    refine gw_iload 23 3 hC dX8_isNextRow_23 rfl ?_
    obtain ⟨g22, h⟩ := gd_e h
    refine m_iald 25 53 hC (by decide) rfl g22 dX8_isNextRow_25 ?_
    refine gw_aload_n 26 0 hC dX8_isNextRow_26 rfl ?_
    obtain ⟨z23, ez23, h⟩ := opt_e h
    refine gw_callV (As := []) (rest := [J (s17 53 (i32 x4_16))]) (st' := [J z23.1, J (s17 53 (i32 x4_16))]) 27 0 hC (met_verbMany ez23 l) (lw_V q2259 q2261 qs92 q161 q2262) (by decide +kernel) (by decide) (m_recv hC) rfl rfl (Nat.le_of_ble_eq_true rfl) dX8_isNextRow_27 rfl ?_
    refine gw_icmp_ge 30 65 hC dX8_isNextRow_30 (by decide) (fun c24 => ?_) (fun c24 => ?_)
    · replace h := if_t h c24
      refine gw_sub [0, 1, 2, 3] rfl ?_
      exact hk65 _ _ _ _ h
    · replace h := if_f h c24
      refine gw_aload_n 33 0 hC dX8_isNextRow_33 rfl ?_
      refine gw_iload 34 3 hC dX8_isNextRow_34 rfl ?_
      refine gw_aload_n 36 0 hC dX8_isNextRow_36 rfl ?_
      refine mg_53 37 hC dX8_isNextRow_37 ?_
      refine gw_iload 40 3 hC dX8_isNextRow_40 rfl ?_
      obtain ⟨g25, h⟩ := gd_e h
      refine m_iald 42 53 hC (by decide) rfl g25 dX8_isNextRow_42 ?_
      refine gw_iload_n 43 1 hC dX8_isNextRow_43 rfl ?_
      refine gw_iload_n 44 2 hC dX8_isNextRow_44 rfl ?_
      obtain ⟨z26, ez26, h⟩ := opt_e h
      refine gw_callV (As := [J x4_16, J (z23.2 53 (i32 x4_16)), J x2_14, J x3_15]) (rest := []) (st' := [J z26.1]) 45 4 hC (met_canBe ez26 l) (lw_V q2361 q2363 qs112 q161 q2364) (by decide +kernel) (by decide) (m_recv hC) rfl rfl (Nat.le_of_ble_eq_true rfl) dX8_isNextRow_45 rfl ?_
      refine gw_if_ne 48 65 hC dX8_isNextRow_48 (by decide) (fun c27 => ?_) (fun c27 => ?_)
      · replace h := if_f h c27
        refine gw_sub [0, 1, 2, 3] rfl ?_
        exact hk65 _ _ _ _ h
      · replace h := if_t h c27
        refine gw_aload_n 51 0 hC dX8_isNextRow_51 rfl ?_
        refine mg_53 52 hC dX8_isNextRow_52 ?_
        refine gw_iload 55 3 hC dX8_isNextRow_55 rfl ?_
        refine gw_dup2 57 hC dX8_isNextRow_57 rfl rfl ?_
        obtain ⟨g28, h⟩ := gd_e h
        refine m_iald 58 53 hC (by decide) rfl g28 dX8_isNextRow_58 ?_
        refine gw_iconst 59 hC dX8_isNextRow_59 ?_
        refine gw_iadd 60 hC dX8_isNextRow_60 ?_
        obtain ⟨g29, h⟩ := gd_e h
        obtain ⟨s30, es30, h⟩ := bnd_e h
        refine m_iast 61 53 hC (MIn_self o) (by decide) rfl g29 es30 dX8_isNextRow_61 ?_
        refine gw_goto 62 19 hC dX8_isNextRow_62 (by decide) ?_
        refine gw_sub [0, 1, 2, 3] rfl ?_
        exact ih _ _ _ _ h
theorem wm_isNextRow_L3 {p : Program} {l : Launch} {e : Env} {s : State} {m : MethodId} {args : Array Value} {below : List Frame} {meth : Method} {c : Code} {D : MD} {o : Nat} {res : Int × MS} {k112 : MS → Option (Int × MS)} {k96 : MS → Option (Int × MS)} (hC : GC p s m args meth c cX8_isNextRow RX8 5 (some .boolean) (MK D)) (hk112 : ∀ (s8 : MS), k112 s8 = some res → GW p l e (rmd 2) s m args below meth c 5 (mAd o) (MRp D o) (MK D) 1 res s8 112 [] []) (hk96 : ∀ (s9 : MS), k96 s9 = some res → GW p l e (rmd 2) s m args below meth c 5 (mAd o) (MRp D o) (MK D) 1 res s9 96 [] []) : ∀ (n : Nat) (x2_4 : Int) (x3_5 : Int) (x4_6 : Int) (s7 : MS), m_isNextRow_L3 k112 k96 n x2_4 x3_5 x4_6 s7 = some res → GW p l e (rmd 2) s m args below meth c 5 (mAd o) (MRp D o) (MK D) 1 res s7 3 [(0, .ref o), (2, J x2_4), (3, J x3_5), (4, J x4_6)] [] := by
  intro n
  induction n with
  | zero =>
    intro x2_4 x3_5 x4_6 s7 h
    cases h
  | succ n ih =>
    intro x2_4 x3_5 x4_6 s7 h
    rw [m_isNextRow_L3] at h
    refine gw_iload 3 3 hC dX8_isNextRow_3 rfl ?_
    refine gw_if_lt 5 112 hC dX8_isNextRow_5 (by decide) (fun c10 => ?_) (fun c10 => ?_)
    · replace h := if_t h c10
      refine gw_sub [] rfl ?_
      exact hk112 _ h
    · replace h := if_f h c10
      refine gw_aload_n 8 0 hC dX8_isNextRow_8 rfl ?_
      refine mg_53 9 hC dX8_isNextRow_9 ?_
      refine gw_iload 12 3 hC dX8_isNextRow_12 rfl ?_
      refine gw_dup2 14 hC dX8_isNextRow_14 rfl rfl ?_
      obtain ⟨g11, h⟩ := gd_e h
      refine m_iald 15 53 hC (by decide) rfl g11 dX8_isNextRow_15 ?_
      refine gw_iconst 16 hC dX8_isNextRow_16 ?_
      refine gw_iadd 17 hC dX8_isNextRow_17 ?_
      obtain ⟨g12, h⟩ := gd_e h
      obtain ⟨s13, es13, h⟩ := bnd_e h
      refine m_iast 18 53 hC (MIn_self o) (by decide) rfl g12 es13 dX8_isNextRow_18 ?_
      refine gw_sub [0, 1, 2, 3] rfl ?_
      refine wm_isNextRow_L19 hC (fun x2_31 x3_32 x4_33 s34 h => ?_) FU _ _ _ _ h
      · refine gw_aload_n 65 0 hC dX8_isNextRow_65 rfl ?_
        refine mg_53 66 hC dX8_isNextRow_66 ?_
        refine gw_iload 69 3 hC dX8_isNextRow_69 rfl ?_
        obtain ⟨g35, h⟩ := gd_e h
        refine m_iald 71 53 hC (by decide) rfl g35 dX8_isNextRow_71 ?_
        refine gw_aload_n 72 0 hC dX8_isNextRow_72 rfl ?_
        obtain ⟨z36, ez36, h⟩ := opt_e h
        refine gw_callV (As := []) (rest := [J (s34 53 (i32 x4_33))]) (st' := [J z36.1, J (s34 53 (i32 x4_33))]) 73 0 hC (met_verbMany ez36 l) (lw_V q2259 q2261 qs92 q161 q2262) (by decide +kernel) (by decide) (m_recv hC) rfl rfl (Nat.le_of_ble_eq_true rfl) dX8_isNextRow_73 rfl ?_
        refine gw_icmp_ne 76 85 hC dX8_isNextRow_76 (by decide) (fun c37 => ?_) (fun c37 => ?_)
        · replace h := if_f h c37
          refine gw_iload 85 3 hC dX8_isNextRow_85 rfl ?_
          refine gw_aload_n 87 0 hC dX8_isNextRow_87 rfl ?_
          obtain ⟨z38, ez38, h⟩ := opt_e h
          refine gw_callV (As := []) (rest := [J x4_33]) (st' := [J z38.1, J x4_33]) 88 0 hC (met_sayingMany ez38 l) (lw_V q2278 q2280 qs96 q161 q2281) (by decide +kernel) (by decide) (m_recv hC) rfl rfl (Nat.le_of_ble_eq_true rfl) dX8_isNextRow_88 rfl ?_
          refine gw_iconst 91 hC dX8_isNextRow_91 ?_
          refine gw_isub 92 hC dX8_isNextRow_92 ?_
          refine gw_icmp_ne 93 98 hC dX8_isNextRow_93 (by decide) (fun c39 => ?_) (fun c39 => ?_)
          · replace h := if_f h c39
            obtain ⟨x4_40, ex4_40, h⟩ := bnd_e h
            refine gw_iinc 98 3 [(4, J x4_40), (0, .ref o), (2, J x2_31), (3, J x3_32)] hC dX8_isNextRow_98 rfl ex4_40 (by decide) rfl ?_
            refine gw_aload_n 101 1 hC dX8_isNextRow_101 rfl ?_
            refine mg_53 102 hC dX8_isNextRow_102 ?_
            refine gw_iload 105 0 hC dX8_isNextRow_105 rfl ?_
            refine gw_iconst 107 hC dX8_isNextRow_107 ?_
            obtain ⟨g41, h⟩ := gd_e h
            obtain ⟨s42, es42, h⟩ := bnd_e h
            refine m_iast 108 53 hC (MIn_self o) (by decide) rfl g41 es42 dX8_isNextRow_108 ?_
            refine gw_goto 109 3 hC dX8_isNextRow_109 (by decide) ?_
            refine gw_sub [1, 2, 3, 0] rfl ?_
            exact ih _ _ _ _ h
          · replace h := if_t h c39
            refine gw_sub [] rfl ?_
            exact hk96 _ h
        · replace h := if_t h c37
          obtain ⟨x4_43, ex4_43, h⟩ := bnd_e h
          refine gw_iinc 79 3 [(4, J x4_43), (0, .ref o), (2, J x2_31), (3, J x3_32)] hC dX8_isNextRow_79 rfl ex4_43 (by decide) rfl ?_
          refine gw_goto 82 3 hC dX8_isNextRow_82 (by decide) ?_
          refine gw_sub [1, 2, 3, 0] rfl ?_
          exact ih _ _ _ _ h
theorem met_isNextRow {D : MD} {o : Nat} {a1 : Int} {a2 : Int} {a3 : Int} {s0 : MS} {res : Int × MS} (h : m_isNextRow a1 a2 a3 s0 = some res) (l : Launch) : GMet l yX8_isNextRow cX8_isNextRow 5 (some .boolean) 2 (MRp D o) (MK D) (mAd o) [.ref o, J a1, J a2, J a3] s0 1 res := by
  refine GMet.of [(0, .ref o), (1, J a1), (2, J a2), (3, J a3)] (by decide) (MK_moved D) (Nat.le_of_ble_eq_true rfl) rfl ?_
  intro p e s m args below meth c hC
  have hC : GC p s m args meth c cX8_isNextRow RX8 5 (some .boolean) (MK D) := hC
  unfold m_isNextRow at h
  refine gw_iload_n 0 1 hC dX8_isNextRow_0 rfl ?_
  refine gw_istore 1 [(4, J a1), (0, .ref o), (1, J a1), (2, J a2), (3, J a3)] hC dX8_isNextRow_1 (by decide) rfl rfl ?_
  refine gw_sub [1, 3, 4, 0] rfl ?_
  refine wm_isNextRow_L3 hC (fun s44 h => ?_) (fun s45 h => ?_) FU _ _ _ _ h
  · refine gw_iconst 112 hC dX8_isNextRow_112 ?_
    exact gw_zret 113 hC dX8_isNextRow_113 (by decide) h
  · refine gw_iconst 96 hC dX8_isNextRow_96 ?_
    exact gw_zret 97 hC dX8_isNextRow_97 (by decide) h
