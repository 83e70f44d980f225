/-! THE REFERENCE: its methods as functions, and their walks (written by mall.py) -/
set_option maxRecDepth 100000
/-! feed(IIIII)I -/
noncomputable def m_feed_L28 (k124 : MS → Option (Int × MS)) : Nat → Int → Int → Int → Int → Int → Int → MS → Option (Int × MS)
  | 0, _, _, _, _, _, _, _ => none
  | n + 1, x1_8, x2_9, x3_10, x4_11, x5_12, x6_13, s14 =>
    if i32 20 ≤ i32 x6_13 then
      k124 s14
    else
      bnd (fun (x1_17 : Int) (x2_18 : Int) (x3_19 : Int) (x4_20 : Int) (x5_21 : Int) (x6_22 : Int) (w23 : Int) (s24 : MS) =>
          gd (ok 1600 (s24 1 0)) <|
          bnd (up s24 0 (i32 (s24 1 0)) (iand (ishr w23 (8 * (3 - (irem x6_22 4)))) 255)) fun s26 =>
          bnd (up s26 1 0 ((s26 1 0) + 1)) fun s27 =>
          bnd (x6_22 + 1) fun x6_28 =>
          m_feed_L28 k124 n x1_17 x2_18 x3_19 x4_20 x5_21 x6_28 s27) fun j29 =>
      if i32 4 ≤ i32 x6_13 then
        if i32 8 ≤ i32 x6_13 then
          if i32 12 ≤ i32 x6_13 then
            if i32 16 ≤ i32 x6_13 then
              j29 x1_8 x2_9 x3_10 x4_11 x5_12 x6_13 x5_12 s14
            else
              j29 x1_8 x2_9 x3_10 x4_11 x5_12 x6_13 x4_11 s14
          else
            j29 x1_8 x2_9 x3_10 x4_11 x5_12 x6_13 x3_10 s14
        else
          j29 x1_8 x2_9 x3_10 x4_11 x5_12 x6_13 x2_9 s14
      else
        j29 x1_8 x2_9 x3_10 x4_11 x5_12 x6_13 x1_8 s14
noncomputable def m_feed (a1 : Int) (a2 : Int) (a3 : Int) (a4 : Int) (a5 : Int) (s0 : MS) : Option (Int × MS) :=
  if i32 ((s0 1 0) + 20) ≤ i32 1600 then
    bnd 0 fun x6_7 =>
    m_feed_L28
      (fun (s34 : MS) =>
        some ((s34 1 0), s34))
      FU a1 a2 a3 a4 a5 x6_7 s0
  else
    gd (ok 6 0) <|
    gd (ok 6 0) <|
    bnd (up s0 9 (i32 0) ((s0 9 (i32 0)) + 1)) fun s37 =>
    some ((-1), s37)
theorem wm_feed_L28 {p : Program} {l : Launch} {e : Env} {s : State} {m : MethodId} {args : Array Value} {below : List Frame} {meth : Method} {c : Code} {D : MD} {o : Nat} {res : Int × MS} {k124 : MS → Option (Int × MS)} (hC : GC p s m args meth c cX8_feed RX8 8 (some .int) (MK D)) (hk124 : ∀ (s15 : MS), k124 s15 = some res → GW p l e (rmd 1) s m args below meth c 8 (mAd o) (MRp D o) (MK D) 1 res s15 124 [(0, .ref o)] []) : ∀ (n : Nat) (x1_8 : Int) (x2_9 : Int) (x3_10 : Int) (x4_11 : Int) (x5_12 : Int) (x6_13 : Int) (s14 : MS), m_feed_L28 k124 n x1_8 x2_9 x3_10 x4_11 x5_12 x6_13 s14 = some res → GW p l e (rmd 1) s m args below meth c 8 (mAd o) (MRp D o) (MK D) 1 res s14 28 [(0, .ref o), (1, J x1_8), (2, J x2_9), (3, J x3_10), (4, J x4_11), (5, J x5_12), (6, J x6_13)] [] := by
  intro n
  induction n with
  | zero =>
    intro x1_8 x2_9 x3_10 x4_11 x5_12 x6_13 s14 h
    cases h
  | succ n ih =>
    intro x1_8 x2_9 x3_10 x4_11 x5_12 x6_13 s14 h
    rw [m_feed_L28] at h
    refine gw_iload 28 6 hC dX8_feed_28 rfl ?_
    refine gw_bipush 30 hC dX8_feed_30 (by decide) ?_
    refine gw_icmp_ge 32 124 hC dX8_feed_32 (by decide) (fun c16 => ?_) (fun c16 => ?_)
    · replace h := if_t h c16
      refine gw_sub [0] rfl ?_
      exact hk124 _ h
    · replace h := if_f h c16
      refine gw_iload 35 6 hC dX8_feed_35 rfl ?_
      refine gw_iconst 37 hC dX8_feed_37 ?_
      obtain ⟨j29, ej29, h⟩ := bnd_e h
      have hj29 : ∀ (x1_17 : Int) (x2_18 : Int) (x3_19 : Int) (x4_20 : Int) (x5_21 : Int) (x6_22 : Int) (w23 : Int) (s24 : MS), j29 x1_17 x2_18 x3_19 x4_20 x5_21 x6_22 w23 s24 = some res → GW p l e (rmd 1) s m args below meth c 8 (mAd o) (MRp D o) (MK D) 1 res s24 81 [(0, .ref o), (1, J x1_17), (2, J x2_18), (3, J x3_19), (4, J x4_20), (5, J x5_21), (6, J x6_22)] [J w23] := by
        clear h
        intro x1_17 x2_18 x3_19 x4_20 x5_21 x6_22 w23 s24 h
        subst ej29
        refine gw_istore 81 [(7, J w23), (0, .ref o), (1, J x1_17), (2, J x2_18), (3, J x3_19), (4, J x4_20), (5, J x5_21), (6, J x6_22)] hC dX8_feed_81 (by decide) rfl rfl ?_
        refine gw_aload_n 83 1 hC dX8_feed_83 rfl ?_
        refine mg_0 84 hC dX8_feed_84 ?_
        refine gw_aload_n 87 1 hC dX8_feed_87 rfl ?_
        refine mg_1 88 hC dX8_feed_88 ?_
        refine gw_iload 91 0 hC dX8_feed_91 rfl ?_
        refine gw_bipush 93 hC dX8_feed_93 (by decide) ?_
        refine gw_iconst 95 hC dX8_feed_95 ?_
        refine gw_iload 96 7 hC dX8_feed_96 rfl ?_
        refine gw_iconst 98 hC dX8_feed_98 ?_
        refine gw_irem 99 hC dX8_feed_99 (by decide) ?_
        refine gw_isub 100 hC dX8_feed_100 ?_
        refine gw_imul 101 hC dX8_feed_101 ?_
        refine gw_ishr 102 hC dX8_feed_102 ?_
        refine gw_sipush 103 hC dX8_feed_103 (by decide) ?_
        refine gw_iand 106 hC dX8_feed_106 ?_
        obtain ⟨g25, h⟩ := gd_e h
        obtain ⟨s26, es26, h⟩ := bnd_e h
        refine m_iast 107 0 hC (MIn_self o) (by decide) rfl g25 es26 dX8_feed_107 ?_
        refine gw_aload_n 108 1 hC dX8_feed_108 rfl ?_
        refine gw_dup 109 hC dX8_feed_109 rfl ?_
        refine mg_1 110 hC dX8_feed_110 ?_
        refine gw_iconst 113 hC dX8_feed_113 ?_
        refine gw_iadd 114 hC dX8_feed_114 ?_
        obtain ⟨s27, es27, h⟩ := bnd_e h
        refine mp_1 115 hC (MIn_self o) es27 dX8_feed_115 ?_
        obtain ⟨x6_28, ex6_28, h⟩ := bnd_e h
        refine gw_iinc 118 7 [(6, J x6_28), (7, J w23), (0, .ref o), (1, J x1_17), (2, J x2_18), (3, J x3_19), (4, J x4_20), (5, J x5_21)] hC dX8_feed_118 rfl ex6_28 (by decide) rfl ?_
        refine gw_goto 121 28 hC dX8_feed_121 (by decide) ?_
        refine gw_sub [2, 3, 4, 5, 6, 7, 0] rfl ?_
        exact ih _ _ _ _ _ _ _ h
      refine gw_icmp_ge 38 45 hC dX8_feed_38 (by decide) (fun c30 => ?_) (fun c30 => ?_)
      · replace h := if_t h c30
        refine gw_iload 45 6 hC dX8_feed_45 rfl ?_
        refine gw_bipush 47 hC dX8_feed_47 (by decide) ?_
        refine gw_icmp_ge 49 56 hC dX8_feed_49 (by decide) (fun c31 => ?_) (fun c31 => ?_)
        · replace h := if_t h c31
          refine gw_iload 56 6 hC dX8_feed_56 rfl ?_
          refine gw_bipush 58 hC dX8_feed_58 (by decide) ?_
          refine gw_icmp_ge 60 67 hC dX8_feed_60 (by decide) (fun c32 => ?_) (fun c32 => ?_)
          · replace h := if_t h c32
            refine gw_iload 67 6 hC dX8_feed_67 rfl ?_
            refine gw_bipush 69 hC dX8_feed_69 (by decide) ?_
            refine gw_icmp_ge 71 79 hC dX8_feed_71 (by decide) (fun c33 => ?_) (fun c33 => ?_)
            · replace h := if_t h c33
              refine gw_iload 79 5 hC dX8_feed_79 rfl ?_
              refine gw_sub [0, 1, 2, 3, 4, 5, 6] rfl ?_
              exact hj29 _ _ _ _ _ _ _ _ h
            · replace h := if_f h c33
              refine gw_iload 74 4 hC dX8_feed_74 rfl ?_
              refine gw_goto 76 81 hC dX8_feed_76 (by decide) ?_
              refine gw_sub [0, 1, 2, 3, 4, 5, 6] rfl ?_
              exact hj29 _ _ _ _ _ _ _ _ h
          · replace h := if_f h c32
            refine gw_iload_n 63 3 hC dX8_feed_63 rfl ?_
            refine gw_goto 64 81 hC dX8_feed_64 (by decide) ?_
            refine gw_sub [0, 1, 2, 3, 4, 5, 6] rfl ?_
            exact hj29 _ _ _ _ _ _ _ _ h
        · replace h := if_f h c31
          refine gw_iload_n 52 2 hC dX8_feed_52 rfl ?_
          refine gw_goto 53 81 hC dX8_feed_53 (by decide) ?_
          refine gw_sub [0, 1, 2, 3, 4, 5, 6] rfl ?_
          exact hj29 _ _ _ _ _ _ _ _ h
      · replace h := if_f h c30
        refine gw_iload_n 41 1 hC dX8_feed_41 rfl ?_
        refine gw_goto 42 81 hC dX8_feed_42 (by decide) ?_
        refine gw_sub [0, 1, 2, 3, 4, 5, 6] rfl ?_
        exact hj29 _ _ _ _ _ _ _ _ h
theorem met_feed {D : MD} {o : Nat} {a1 : Int} {a2 : Int} {a3 : Int} {a4 : Int} {a5 : Int} {s0 : MS} {res : Int × MS} (h : m_feed a1 a2 a3 a4 a5 s0 = some res) (l : Launch) : GMet l yX8_feed cX8_feed 8 (some .int) 1 (MRp D o) (MK D) (mAd o) [.ref o, J a1, J a2, J a3, J a4, J a5] s0 1 res := by
  refine GMet.of [(0, .ref o), (1, J a1), (2, J a2), (3, J a3), (4, J a4), (5, J a5)] (by decide) (MK_moved D) (Nat.le_of_ble_eq_true rfl) rfl ?_
  intro p e s m args below meth c hC
  have hC : GC p s m args meth c cX8_feed RX8 8 (some .int) (MK D) := hC
  unfold m_feed at h
  refine gw_aload_n 0 0 hC dX8_feed_0 rfl ?_
  refine mg_1 1 hC dX8_feed_1 ?_
  refine gw_bipush 4 hC dX8_feed_4 (by decide) ?_
  refine gw_iadd 6 hC dX8_feed_6 ?_
  refine gw_sipush 7 hC dX8_feed_7 (by decide) ?_
  refine gw_icmp_le 10 25 hC dX8_feed_10 (by decide) (fun c6 => ?_) (fun c6 => ?_)
  · replace h := if_t h c6
    refine gw_iconst 25 hC dX8_feed_25 ?_
    obtain ⟨x6_7, ex6_7, h⟩ := bnd_e h
    refine gw_istore 26 [(6, J x6_7), (0, .ref o), (1, J a1), (2, J a2), (3, J a3), (4, J a4), (5, J a5)] hC dX8_feed_26 (by decide) ex6_7 rfl ?_
    refine gw_sub [1, 2, 3, 4, 5, 6, 0] rfl ?_
    refine wm_feed_L28 hC (fun s34 h => ?_) FU _ _ _ _ _ _ _ h
    · refine gw_aload_n 124 0 hC dX8_feed_124 rfl ?_
      refine mg_1 125 hC dX8_feed_125 ?_
      exact gw_iret 128 hC dX8_feed_128 h
  · replace h := if_f h c6
    refine gw_aload_n 13 0 hC dX8_feed_13 rfl ?_
    refine mg_9 14 hC dX8_feed_14 ?_
    refine gw_iconst 17 hC dX8_feed_17 ?_
    refine gw_dup2 18 hC dX8_feed_18 rfl rfl ?_
    obtain ⟨g35, h⟩ := gd_e h
    refine m_iald 19 9 hC (by decide) rfl g35 dX8_feed_19 ?_
    refine gw_iconst 20 hC dX8_feed_20 ?_
    refine gw_iadd 21 hC dX8_feed_21 ?_
    obtain ⟨g36, h⟩ := gd_e h
    obtain ⟨s37, es37, h⟩ := bnd_e h
    refine m_iast 22 9 hC (MIn_self o) (by decide) rfl g36 es37 dX8_feed_22 ?_
    refine gw_iconst 23 hC dX8_feed_23 ?_
    exact gw_iret 24 hC dX8_feed_24 h
/-! end(I)Z -/
noncomputable def m_end (a1 : Int) (s0 : MS) : Option (Int × MS) :=
  bnd (fun (s2 : MS) =>
      gd (ok 6 0) <|
      gd (ok 6 0) <|
      bnd (up s2 9 (i32 0) ((s2 9 (i32 0)) + 1)) fun s5 =>
      some (0, s5)) fun j6 =>
  if i32 a1 < 0 then
    j6 s0
  else
    if i32 a1 ≤ i32 (s0 1 0) then
      bnd (up s0 1 0 a1) fun s9 =>
      some (1, s9)
    else
      j6 s0
theorem met_end {D : MD} {o : Nat} {a1 : Int} {s0 : MS} {res : Int × MS} (h : m_end a1 s0 = some res) (l : Launch) : GMet l yX8_end cX8_end 2 (some .boolean) 1 (MRp D o) (MK D) (mAd o) [.ref o, J a1] s0 1 res := by
  refine GMet.of [(0, .ref o), (1, J a1)] (by decide) (MK_moved D) (Nat.le_of_ble_eq_true rfl) rfl ?_
  intro p e s m args below meth c hC
  have hC : GC p s m args meth c cX8_end RX8 2 (some .boolean) (MK D) := hC
  unfold m_end at h
  refine gw_iload_n 0 1 hC dX8_end_0 rfl ?_
  obtain ⟨j6, ej6, h⟩ := bnd_e h
  have hj6 : ∀ (s2 : MS), j6 s2 = some res → GW p l e (rmd 1) s m args below meth c 2 (mAd o) (MRp D o) (MK D) 1 res s2 12 [(0, .ref o)] [] := by
    clear h
    intro s2 h
    subst ej6
    refine gw_aload_n 12 0 hC dX8_end_12 rfl ?_
    refine mg_9 13 hC dX8_end_13 ?_
    refine gw_iconst 16 hC dX8_end_16 ?_
    refine gw_dup2 17 hC dX8_end_17 rfl rfl ?_
    obtain ⟨g3, h⟩ := gd_e h
    refine m_iald 18 9 hC (by decide) rfl g3 dX8_end_18 ?_
    refine gw_iconst 19 hC dX8_end_19 ?_
    refine gw_iadd 20 hC dX8_end_20 ?_
    obtain ⟨g4, h⟩ := gd_e h
    obtain ⟨s5, es5, h⟩ := bnd_e h
    refine m_iast 21 9 hC (MIn_self o) (by decide) rfl g4 es5 dX8_end_21 ?_
    refine gw_iconst 22 hC dX8_end_22 ?_
    exact gw_zret 23 hC dX8_end_23 (by decide) h
  refine gw_if_lt 1 12 hC dX8_end_1 (by decide) (fun c7 => ?_) (fun c7 => ?_)
  · replace h := if_t h c7
    refine gw_sub [0] rfl ?_
    exact hj6 _ h
  · replace h := if_f h c7
    refine gw_iload_n 4 1 hC dX8_end_4 rfl ?_
    refine gw_aload_n 5 0 hC dX8_end_5 rfl ?_
    refine mg_1 6 hC dX8_end_6 ?_
    refine gw_icmp_le 9 24 hC dX8_end_9 (by decide) (fun c8 => ?_) (fun c8 => ?_)
    · replace h := if_t h c8
      refine gw_aload_n 24 0 hC dX8_end_24 rfl ?_
      refine gw_iload_n 25 1 hC dX8_end_25 rfl ?_
      obtain ⟨s9, es9, h⟩ := bnd_e h
      refine mp_1 26 hC (MIn_self o) es9 dX8_end_26 ?_
      refine gw_iconst 29 hC dX8_end_29 ?_
      exact gw_zret 30 hC dX8_end_30 (by decide) h
    · replace h := if_f h c8
      refine gw_sub [0] rfl ?_
      exact hj6 _ h
/-! look()I -/
noncomputable def m_look_L0 (k52 : MS → Option (Int × MS)) : Nat → MS → Option (Int × MS)
  | 0, _ => none
  | n + 1, s1 =>
    if i32 (s1 3 0) ≤ i32 (s1 2 0) then
      k52 s1
    else
      gd (ok 1600 (s1 2 0)) <|
      bnd (fun (s5 : MS) =>
          bnd (up s5 2 0 ((s5 2 0) + 1)) fun s6 =>
          m_look_L0 k52 n s6) fun j7 =>
      if i32 (s1 0 (i32 (s1 2 0))) = i32 10 then
        j7 s1
      else
        gd (ok 1600 (s1 2 0)) <|
        if i32 (s1 0 (i32 (s1 2 0))) = i32 32 then
          j7 s1
        else
          k52 s1
noncomputable def m_look (s0 : MS) : Option (Int × MS) :=
  m_look_L0
    (fun (s11 : MS) =>
      if i32 (s11 3 0) ≤ i32 (s11 2 0) then
        some ((-1), s11)
      else
        gd (ok 1600 (s11 2 0)) <|
        some ((s11 0 (i32 (s11 2 0))), s11))
    FU s0
theorem wm_look_L0 {p : Program} {l : Launch} {e : Env} {s : State} {m : MethodId} {args : Array Value} {below : List Frame} {meth : Method} {c : Code} {D : MD} {o : Nat} {res : Int × MS} {k52 : MS → Option (Int × MS)} (hC : GC p s m args meth c cX8_look RX8 1 (some .int) (MK D)) (hk52 : ∀ (s2 : MS), k52 s2 = some res → GW p l e (rmd 1) s m args below meth c 1 (mAd o) (MRp D o) (MK D) 1 res s2 52 [(0, .ref o)] []) : ∀ (n : Nat) (s1 : MS), m_look_L0 k52 n s1 = some res → GW p l e (rmd 1) s m args below meth c 1 (mAd o) (MRp D o) (MK D) 1 res s1 0 [(0, .ref o)] [] := by
  intro n
  induction n with
  | zero =>
    intro s1 h
    cases h
  | succ n ih =>
    intro s1 h
    rw [m_look_L0] at h
    refine gw_aload_n 0 0 hC dX8_look_0 rfl ?_
    refine mg_2 1 hC dX8_look_1 ?_
    refine gw_aload_n 4 0 hC dX8_look_4 rfl ?_
    refine mg_3 5 hC dX8_look_5 ?_
    refine gw_icmp_ge 8 52 hC dX8_look_8 (by decide) (fun c3 => ?_) (fun c3 => ?_)
    · replace h := if_t h c3
      refine gw_sub [0] rfl ?_
      exact hk52 _ h
    · replace h := if_f h c3
      refine gw_aload_n 11 0 hC dX8_look_11 rfl ?_
      refine mg_0 12 hC dX8_look_12 ?_
      refine gw_aload_n 15 0 hC dX8_look_15 rfl ?_
      refine mg_2 16 hC dX8_look_16 ?_
      obtain ⟨g4, h⟩ := gd_e h
      refine m_iald 19 0 hC (by decide) rfl g4 dX8_look_19 ?_
      refine gw_bipush 20 hC dX8_look_20 (by decide) ?_
      obtain ⟨j7, ej7, h⟩ := bnd_e h
      have hj7 : ∀ (s5 : MS), j7 s5 = some res → GW p l e (rmd 1) s m args below meth c 1 (mAd o) (MRp D o) (MK D) 1 res s5 39 [(0, .ref o)] [] := by
        clear h
        intro s5 h
        subst ej7
        refine gw_aload_n 39 0 hC dX8_look_39 rfl ?_
        refine gw_dup 40 hC dX8_look_40 rfl ?_
        refine mg_2 41 hC dX8_look_41 ?_
        refine gw_iconst 44 hC dX8_look_44 ?_
        refine gw_iadd 45 hC dX8_look_45 ?_
        obtain ⟨s6, es6, h⟩ := bnd_e h
        refine mp_2 46 hC (MIn_self o) es6 dX8_look_46 ?_
        refine gw_goto 49 0 hC dX8_look_49 (by decide) ?_
        refine gw_sub [0] rfl ?_
        exact ih _ h
      refine gw_icmp_eq 22 39 hC dX8_look_22 (by decide) (fun c8 => ?_) (fun c8 => ?_)
      · replace h := if_t h c8
        refine gw_sub [0] rfl ?_
        exact hj7 _ h
      · replace h := if_f h c8
        refine gw_aload_n 25 0 hC dX8_look_25 rfl ?_
        refine mg_0 26 hC dX8_look_26 ?_
        refine gw_aload_n 29 0 hC dX8_look_29 rfl ?_
        refine mg_2 30 hC dX8_look_30 ?_
        obtain ⟨g9, h⟩ := gd_e h
        refine m_iald 33 0 hC (by decide) rfl g9 dX8_look_33 ?_
        refine gw_bipush 34 hC dX8_look_34 (by decide) ?_
        refine gw_icmp_ne 36 52 hC dX8_look_36 (by decide) (fun c10 => ?_) (fun c10 => ?_)
        · replace h := if_f h c10
          refine gw_sub [0] rfl ?_
          exact hk52 _ h
        · replace h := if_t h c10
          refine gw_sub [0] rfl ?_
          exact hj7 _ h
theorem met_look {D : MD} {o : Nat} {s0 : MS} {res : Int × MS} (h : m_look s0 = some res) (l : Launch) : GMet l yX8_look cX8_look 1 (some .int) 1 (MRp D o) (MK D) (mAd o) [.ref o] s0 1 res := by
  refine GMet.of [(0, .ref o)] (by decide) (MK_moved D) (Nat.le_of_ble_eq_true rfl) rfl ?_
  intro p e s m args below meth c hC
  have hC : GC p s m args meth c cX8_look RX8 1 (some .int) (MK D) := hC
  unfold m_look at h
  refine gw_sub [0] rfl ?_
  refine wm_look_L0 hC (fun s11 h => ?_) FU _ h
  · refine gw_aload_n 52 0 hC dX8_look_52 rfl ?_
    refine mg_2 53 hC dX8_look_53 ?_
    refine gw_aload_n 56 0 hC dX8_look_56 rfl ?_
    refine mg_3 57 hC dX8_look_57 ?_
    refine gw_icmp_ge 60 75 hC dX8_look_60 (by decide) (fun c12 => ?_) (fun c12 => ?_)
    · replace h := if_t h c12
      refine gw_iconst 75 hC dX8_look_75 ?_
      exact gw_iret 76 hC dX8_look_76 h
    · replace h := if_f h c12
      refine gw_aload_n 63 0 hC dX8_look_63 rfl ?_
      refine mg_0 64 hC dX8_look_64 ?_
      refine gw_aload_n 67 0 hC dX8_look_67 rfl ?_
      refine mg_2 68 hC dX8_look_68 ?_
      obtain ⟨g13, h⟩ := gd_e h
      refine m_iald 71 0 hC (by decide) rfl g13 dX8_look_71 ?_
      refine gw_goto 72 76 hC dX8_look_72 (by decide) ?_
      exact gw_iret 76 hC dX8_look_76 h
/-! isLetter(I)Z -/
noncomputable def m_isLetter (a1 : Int) (s0 : MS) : Option (Int × MS) :=
  if i32 a1 < i32 97 then
    some (0, s0)
  else
    if i32 122 < i32 a1 then
      some (0, s0)
    else
      some (1, s0)
theorem met_isLetter {D : MD} {o : Nat} {a1 : Int} {s0 : MS} {res : Int × MS} (h : m_isLetter a1 s0 = some res) (l : Launch) : GMet l yX8_isLetter cX8_isLetter 1 (some .boolean) 1 (MRp D o) (MK D) (mAd o) [J a1] s0 1 res := by
  refine GMet.of [(0, J a1)] (by decide) (MK_moved D) (Nat.le_of_ble_eq_true rfl) rfl ?_
  intro p e s m args below meth c hC
  have hC : GC p s m args meth c cX8_isLetter RX8 1 (some .boolean) (MK D) := hC
  unfold m_isLetter at h
  refine gw_iload_n 0 0 hC dX8_isLetter_0 rfl ?_
  refine gw_bipush 1 hC dX8_isLetter_1 (by decide) ?_
  refine gw_icmp_lt 3 16 hC dX8_isLetter_3 (by decide) (fun c2 => ?_) (fun c2 => ?_)
  · replace h := if_t h c2
    refine gw_iconst 16 hC dX8_isLetter_16 ?_
    exact gw_zret 17 hC dX8_isLetter_17 (by decide) h
  · replace h := if_f h c2
    refine gw_iload_n 6 0 hC dX8_isLetter_6 rfl ?_
    refine gw_bipush 7 hC dX8_isLetter_7 (by decide) ?_
    refine gw_icmp_gt 9 16 hC dX8_isLetter_9 (by decide) (fun c3 => ?_) (fun c3 => ?_)
    · replace h := if_t h c3
      refine gw_iconst 16 hC dX8_isLetter_16 ?_
      exact gw_zret 17 hC dX8_isLetter_17 (by decide) h
    · replace h := if_f h c3
      refine gw_iconst 12 hC dX8_isLetter_12 ?_
      refine gw_goto 13 17 hC dX8_isLetter_13 (by decide) ?_
      exact gw_zret 17 hC dX8_isLetter_17 (by decide) h
/-! isHere([C)Z -/
noncomputable def m_isHere_L35 (k61 : Nat → Int → MS → Option (Int × MS)) : Nat → Nat → Int → MS → Option (Int × MS)
  | 0, _, _, _ => none
  | n + 1, x1_8, x2_9, s10 =>
    if i32 (s10 3 0) ≤ i32 x2_9 then
      k61 x1_8 x2_9 s10
    else
      gd (ok 1600 x2_9) <|
      Option.bind (m_isLetter (s10 0 (i32 x2_9)) s10) fun z16 =>
      if i32 z16.1 = 0 then
        k61 x1_8 x2_9 z16.2
      else
        bnd (x2_9 + 1) fun x2_18 =>
        m_isHere_L35 k61 n x1_8 x2_18 z16.2
noncomputable def m_isHere_L76 (k107 : MS → Option (Int × MS)) (k99 : MS → Option (Int × MS)) : Nat → Nat → Int → MS → Option (Int × MS)
  | 0, _, _, _ => none
  | n + 1, x1_25, x3_26, s27 =>
    gd (x1_25 < 108 ∧ mK x1_25 = 11) <|
    if i32 (mN x1_25 : Int) ≤ i32 x3_26 then
      k107 s27
    else
      gd (ok 1600 ((s27 2 0) + x3_26)) <|
      gd (x1_25 < 108 ∧ mK x1_25 = 11) <|
      gd (ok (mN x1_25) x3_26) <|
      if i32 (s27 0 (i32 ((s27 2 0) + x3_26))) = i32 (s27 x1_25 (i32 x3_26)) then
        bnd (x3_26 + 1) fun x3_36 =>
        m_isHere_L76 k107 k99 n x1_25 x3_36 s27
      else
        k99 s27
noncomputable def m_isHere (a1 : Nat) (s0 : MS) : Option (Int × MS) :=
  if i32 (s0 5 0) = 0 then
    Option.bind (m_look s0) fun z3 =>
    Option.bind (m_isLetter z3.1 z3.2) fun z4 =>
    if i32 z4.1 = 0 then
      some (0, z4.2)
    else
      if i32 (z4.2 2 0) = i32 (z4.2 4 0) then
        some (0, z4.2)
      else
        bnd (z4.2 2 0) fun x2_7 =>
        m_isHere_L35
          (fun (x1_19 : Nat) (x2_20 : Int) (s21 : MS) =>
            gd (x1_19 < 108 ∧ mK x1_19 = 11) <|
            if i32 (x2_20 - (s21 2 0)) = i32 (mN x1_19 : Int) then
              bnd 0 fun x3_24 =>
              m_isHere_L76
                (fun (s37 : MS) =>
                  some (1, s37))
                (fun (s38 : MS) =>
                  some (0, s38))
                FU x1_19 x3_24 s21
            else
              some (0, s21))
          FU a1 x2_7 z4.2
  else
    some (0, s0)
theorem wm_isHere_L35 {p : Program} {l : Launch} {e : Env} {s : State} {m : MethodId} {args : Array Value} {below : List Frame} {meth : Method} {c : Code} {D : MD} {o : Nat} {res : Int × MS} {k61 : Nat → Int → MS → Option (Int × MS)} (hC : GC p s m args meth c cX8_isHere RX8 4 (some .boolean) (MK D)) (hk61 : ∀ (x1_11 : Nat) (x2_12 : Int) (s13 : MS), k61 x1_11 x2_12 s13 = some res → GW p l e (rmd 2) s m args below meth c 4 (mAd o) (MRp D o) (MK D) 1 res s13 61 [(0, .ref o), (1, .ref (o + mO x1_11)), (2, J x2_12)] []) : ∀ (n : Nat) (x1_8 : Nat) (x2_9 : Int) (s10 : MS), m_isHere_L35 k61 n x1_8 x2_9 s10 = some res → GW p l e (rmd 2) s m args below meth c 4 (mAd o) (MRp D o) (MK D) 1 res s10 35 [(0, .ref o), (1, .ref (o + mO x1_8)), (2, J x2_9)] [] := by
  intro n
  induction n with
  | zero =>
    intro x1_8 x2_9 s10 h
    cases h
  | succ n ih =>
    intro x1_8 x2_9 s10 h
    rw [m_isHere_L35] at h
    refine gw_iload_n 35 2 hC dX8_isHere_35 rfl ?_
    refine gw_aload_n 36 0 hC dX8_isHere_36 rfl ?_
    refine mg_3 37 hC dX8_isHere_37 ?_
    refine gw_icmp_ge 40 61 hC dX8_isHere_40 (by decide) (fun c14 => ?_) (fun c14 => ?_)
    · replace h := if_t h c14
      refine gw_sub [0, 1, 2] rfl ?_
      exact hk61 _ _ _ h
    · replace h := if_f h c14
      refine gw_aload_n 43 0 hC dX8_isHere_43 rfl ?_
      refine mg_0 44 hC dX8_isHere_44 ?_
      refine gw_iload_n 47 2 hC dX8_isHere_47 rfl ?_
      obtain ⟨g15, h⟩ := gd_e h
      refine m_iald 48 0 hC (by decide) rfl g15 dX8_isHere_48 ?_
      obtain ⟨z16, ez16, h⟩ := opt_e h
      refine gw_callS (As := [J (s10 0 (i32 x2_9))]) (rest := []) (st' := [J z16.1]) 49 1 hC (met_isLetter ez16 l) (lw_S q2109 q2110 q161 q2111) (by decide +kernel) (by decide) rfl rfl (Nat.le_of_ble_eq_true rfl) dX8_isHere_49 rfl ?_
      refine gw_if_eq 52 61 hC dX8_isHere_52 (by decide) (fun c17 => ?_) (fun c17 => ?_)
      · replace h := if_t h c17
        refine gw_sub [0, 1, 2] rfl ?_
        exact hk61 _ _ _ h
      · replace h := if_f h c17
        obtain ⟨x2_18, ex2_18, h⟩ := bnd_e h
        refine gw_iinc 55 2 [(2, J x2_18), (0, .ref o), (1, .ref (o + mO x1_8))] hC dX8_isHere_55 rfl ex2_18 (by decide) rfl ?_
        refine gw_goto 58 35 hC dX8_isHere_58 (by decide) ?_
        refine gw_sub [1, 2, 0] rfl ?_
        exact ih _ _ _ h
theorem wm_isHere_L76 {p : Program} {l : Launch} {e : Env} {s : State} {m : MethodId} {args : Array Value} {below : List Frame} {meth : Method} {c : Code} {D : MD} {o : Nat} {res : Int × MS} {k107 : MS → Option (Int × MS)} {k99 : MS → Option (Int × MS)} (hC : GC p s m args meth c cX8_isHere RX8 4 (some .boolean) (MK D)) (hk107 : ∀ (s28 : MS), k107 s28 = some res → GW p l e (rmd 2) s m args below meth c 4 (mAd o) (MRp D o) (MK D) 1 res s28 107 [] []) (hk99 : ∀ (s29 : MS), k99 s29 = some res → GW p l e (rmd 2) s m args below meth c 4 (mAd o) (MRp D o) (MK D) 1 res s29 99 [] []) : ∀ (n : Nat) (x1_25 : Nat) (x3_26 : Int) (s27 : MS), m_isHere_L76 k107 k99 n x1_25 x3_26 s27 = some res → GW p l e (rmd 2) s m args below meth c 4 (mAd o) (MRp D o) (MK D) 1 res s27 76 [(0, .ref o), (1, .ref (o + mO x1_25)), (3, J x3_26)] [] := by
  intro n
  induction n with
  | zero =>
    intro x1_25 x3_26 s27 h
    cases h
  | succ n ih =>
    intro x1_25 x3_26 s27 h
    rw [m_isHere_L76] at h
    refine gw_iload_n 76 2 hC dX8_isHere_76 rfl ?_
    refine gw_aload_n 77 1 hC dX8_isHere_77 rfl ?_
    obtain ⟨g30, h⟩ := gd_e h
    refine m_alen 78 x1_25 hC g30.1 g30.2 dX8_isHere_78 ?_
    refine gw_icmp_ge 79 107 hC dX8_isHere_79 (by decide) (fun c31 => ?_) (fun c31 => ?_)
    · replace h := if_t h c31
      refine gw_sub [] rfl ?_
      exact hk107 _ h
    · replace h := if_f h c31
      refine gw_aload_n 82 0 hC dX8_isHere_82 rfl ?_
      refine mg_0 83 hC dX8_isHere_83 ?_
      refine gw_aload_n 86 0 hC dX8_isHere_86 rfl ?_
      refine mg_2 87 hC dX8_isHere_87 ?_
      refine gw_iload_n 90 2 hC dX8_isHere_90 rfl ?_
      refine gw_iadd 91 hC dX8_isHere_91 ?_
      obtain ⟨g32, h⟩ := gd_e h
      refine m_iald 92 0 hC (by decide) rfl g32 dX8_isHere_92 ?_
      refine gw_aload_n 93 1 hC dX8_isHere_93 rfl ?_
      refine gw_iload_n 94 2 hC dX8_isHere_94 rfl ?_
      obtain ⟨g33, h⟩ := gd_e h
      obtain ⟨g34, h⟩ := gd_e h
      refine m_cald 95 x1_25 hC g33.1 g33.2 g34 dX8_isHere_95 ?_
      refine gw_icmp_eq 96 101 hC dX8_isHere_96 (by decide) (fun c35 => ?_) (fun c35 => ?_)
      · replace h := if_t h c35
        obtain ⟨x3_36, ex3_36, h⟩ := bnd_e h
        refine gw_iinc 101 2 [(3, J x3_36), (0, .ref o), (1, .ref (o + mO x1_25))] hC dX8_isHere_101 rfl ex3_36 (by decide) rfl ?_
        refine gw_goto 104 76 hC dX8_isHere_104 (by decide) ?_
        refine gw_sub [1, 2, 0] rfl ?_
        exact ih _ _ _ h
      · replace h := if_f h c35
        refine gw_sub [] rfl ?_
        exact hk99 _ h
theorem met_isHere {D : MD} {o : Nat} {a1 : Nat} {s0 : MS} {res : Int × MS} (h : m_isHere a1 s0 = some res) (l : Launch) : GMet l yX8_isHere cX8_isHere 4 (some .boolean) 2 (MRp D o) (MK D) (mAd o) [.ref o, .ref (o + mO a1)] s0 1 res := by
  refine GMet.of [(0, .ref o), (1, .ref (o + mO a1))] (by decide) (MK_moved D) (Nat.le_of_ble_eq_true rfl) rfl ?_
  intro p e s m args below meth c hC
  have hC : GC p s m args meth c cX8_isHere RX8 4 (some .boolean) (MK D) := hC
  unfold m_isHere at h
  refine gw_aload_n 0 0 hC dX8_isHere_0 rfl ?_
  refine mg_5 1 hC dX8_isHere_1 ?_
  refine gw_if_ne 4 28 hC dX8_isHere_4 (by decide) (fun c2 => ?_) (fun c2 => ?_)
  · replace h := if_f h c2
    refine gw_iconst 28 hC dX8_isHere_28 ?_
    exact gw_zret 29 hC dX8_isHere_29 (by decide) h
  · replace h := if_t h c2
    refine gw_aload_n 7 0 hC dX8_isHere_7 rfl ?_
    obtain ⟨z3, ez3, h⟩ := opt_e h
    refine gw_callV (As := []) (rest := []) (st' := [J z3.1]) 8 0 hC (met_look ez3 l) (lw_V q2105 q2107 qs59 q161 q2108) (by decide +kernel) (by decide) (m_recv hC) rfl rfl (Nat.le_of_ble_eq_true rfl) dX8_isHere_8 rfl ?_
    obtain ⟨z4, ez4, h⟩ := opt_e h
    refine gw_callS (As := [J z3.1]) (rest := []) (st' := [J z4.1]) 11 1 hC (met_isLetter ez4 l) (lw_S q2109 q2110 q161 q2111) (by decide +kernel) (by decide) rfl rfl (Nat.le_of_ble_eq_true rfl) dX8_isHere_11 rfl ?_
    refine gw_if_eq 14 28 hC dX8_isHere_14 (by decide) (fun c5 => ?_) (fun c5 => ?_)
    · replace h := if_t h c5
      refine gw_iconst 28 hC dX8_isHere_28 ?_
      exact gw_zret 29 hC dX8_isHere_29 (by decide) h
    · replace h := if_f h c5
      refine gw_aload_n 17 0 hC dX8_isHere_17 rfl ?_
      refine mg_2 18 hC dX8_isHere_18 ?_
      refine gw_aload_n 21 0 hC dX8_isHere_21 rfl ?_
      refine mg_4 22 hC dX8_isHere_22 ?_
      refine gw_icmp_ne 25 30 hC dX8_isHere_25 (by decide) (fun c6 => ?_) (fun c6 => ?_)
      · replace h := if_f h c6
        refine gw_aload_n 30 0 hC dX8_isHere_30 rfl ?_
        refine mg_2 31 hC dX8_isHere_31 ?_
        obtain ⟨x2_7, ex2_7, h⟩ := bnd_e h
        refine gw_istore_n 34 [(2, J x2_7), (0, .ref o), (1, .ref (o + mO a1))] hC dX8_isHere_34 (by decide) ex2_7 rfl ?_
        refine gw_sub [1, 2, 0] rfl ?_
        refine wm_isHere_L35 hC (fun x1_19 x2_20 s21 h => ?_) FU _ _ _ h
        · refine gw_iload_n 61 2 hC dX8_isHere_61 rfl ?_
          refine gw_aload_n 62 0 hC dX8_isHere_62 rfl ?_
          refine mg_2 63 hC dX8_isHere_63 ?_
          refine gw_isub 66 hC dX8_isHere_66 ?_
          refine gw_aload_n 67 1 hC dX8_isHere_67 rfl ?_
          obtain ⟨g22, h⟩ := gd_e h
          refine m_alen 68 x1_19 hC g22.1 g22.2 dX8_isHere_68 ?_
          refine gw_icmp_eq 69 74 hC dX8_isHere_69 (by decide) (fun c23 => ?_) (fun c23 => ?_)
          · replace h := if_t h c23
            refine gw_iconst 74 hC dX8_isHere_74 ?_
            obtain ⟨x3_24, ex3_24, h⟩ := bnd_e h
            refine gw_istore_n 75 [(3, J x3_24), (0, .ref o), (1, .ref (o + mO x1_19)), (2, J x2_20)] hC dX8_isHere_75 (by decide) ex3_24 rfl ?_
            refine gw_sub [1, 2, 0] rfl ?_
            refine wm_isHere_L76 hC (fun s37 h => ?_) (fun s38 h => ?_) FU _ _ _ h
            · refine gw_iconst 107 hC dX8_isHere_107 ?_
              exact gw_zret 108 hC dX8_isHere_108 (by decide) h
            · refine gw_iconst 99 hC dX8_isHere_99 ?_
              exact gw_zret 100 hC dX8_isHere_100 (by decide) h
          · replace h := if_f h c23
            refine gw_iconst 72 hC dX8_isHere_72 ?_
            exact gw_zret 73 hC dX8_isHere_73 (by decide) h
      · replace h := if_t h c6
        refine gw_iconst 28 hC dX8_isHere_28 ?_
        exact gw_zret 29 hC dX8_isHere_29 (by decide) h
/-! takes([C)Z -/
noncomputable def m_takes (a1 : Nat) (s0 : MS) : Option (Int × MS) :=
  Option.bind (m_isHere a1 s0) fun z2 =>
  if i32 z2.1 = 0 then
    some (0, z2.2)
  else
    gd (a1 < 108 ∧ mK a1 = 11) <|
    bnd (up z2.2 2 0 ((z2.2 2 0) + (mN a1 : Int))) fun s5 =>
    bnd (up s5 4 0 (s5 2 0)) fun s6 =>
    some (1, s6)
theorem met_takes {D : MD} {o : Nat} {a1 : Nat} {s0 : MS} {res : Int × MS} (h : m_takes a1 s0 = some res) (l : Launch) : GMet l yX8_takes cX8_takes 2 (some .boolean) 3 (MRp D o) (MK D) (mAd o) [.ref o, .ref (o + mO a1)] s0 1 res := by
  refine GMet.of [(0, .ref o), (1, .ref (o + mO a1))] (by decide) (MK_moved D) (Nat.le_of_ble_eq_true rfl) rfl ?_
  intro p e s m args below meth c hC
  have hC : GC p s m args meth c cX8_takes RX8 2 (some .boolean) (MK D) := hC
  unfold m_takes at h
  refine gw_aload_n 0 0 hC dX8_takes_0 rfl ?_
  refine gw_aload_n 1 1 hC dX8_takes_1 rfl ?_
  obtain ⟨z2, ez2, h⟩ := opt_e h
  refine gw_callV (As := [.ref (o + mO a1)]) (rest := []) (st' := [J z2.1]) 2 1 hC (met_isHere ez2 l) (lw_V q2101 q2103 qs58 q161 q2104) (by decide +kernel) (by decide) (m_recv hC) rfl rfl (Nat.le_of_ble_eq_true rfl) dX8_takes_2 rfl ?_
  refine gw_if_ne 5 10 hC dX8_takes_5 (by decide) (fun c3 => ?_) (fun c3 => ?_)
  · replace h := if_f h c3
    refine gw_aload_n 10 0 hC dX8_takes_10 rfl ?_
    refine gw_dup 11 hC dX8_takes_11 rfl ?_
    refine mg_2 12 hC dX8_takes_12 ?_
    refine gw_aload_n 15 1 hC dX8_takes_15 rfl ?_
    obtain ⟨g4, h⟩ := gd_e h
    refine m_alen 16 a1 hC g4.1 g4.2 dX8_takes_16 ?_
    refine gw_iadd 17 hC dX8_takes_17 ?_
    obtain ⟨s5, es5, h⟩ := bnd_e h
    refine mp_2 18 hC (MIn_self o) es5 dX8_takes_18 ?_
    refine gw_aload_n 21 0 hC dX8_takes_21 rfl ?_
    refine gw_aload_n 22 0 hC dX8_takes_22 rfl ?_
    refine mg_2 23 hC dX8_takes_23 ?_
    obtain ⟨s6, es6, h⟩ := bnd_e h
    refine mp_4 26 hC (MIn_self o) es6 dX8_takes_26 ?_
    refine gw_iconst 29 hC dX8_takes_29 ?_
    exact gw_zret 30 hC dX8_takes_30 (by decide) h
  · replace h := if_t h c3
    refine gw_iconst 8 hC dX8_takes_8 ?_
    exact gw_zret 9 hC dX8_takes_9 (by decide) h
/-! fail(II)V -/
noncomputable def m_fail (a1 : Int) (a2 : Int) (s0 : MS) : Option (Int × MS) :=
  if i32 (s0 5 0) = 0 then
    bnd (up s0 5 0 a1) fun s4 =>
    bnd (up s4 6 0 a2) fun s5 =>
    some (0, s5)
  else
    some (0, s0)
theorem met_fail {D : MD} {o : Nat} {a1 : Int} {a2 : Int} {s0 : MS} {res : Int × MS} (h : m_fail a1 a2 s0 = some res) (l : Launch) : GMet l yX8_fail cX8_fail 3 none 1 (MRp D o) (MK D) (mAd o) [.ref o, J a1, J a2] s0 0 res := by
  refine GMet.of [(0, .ref o), (1, J a1), (2, J a2)] (by decide) (MK_moved D) (Nat.le_of_ble_eq_true rfl) rfl ?_
  intro p e s m args below meth c hC
  have hC : GC p s m args meth c cX8_fail RX8 3 none (MK D) := hC
  unfold m_fail at h
  refine gw_aload_n 0 0 hC dX8_fail_0 rfl ?_
  refine mg_5 1 hC dX8_fail_1 ?_
  refine gw_if_eq 4 8 hC dX8_fail_4 (by decide) (fun c3 => ?_) (fun c3 => ?_)
  · replace h := if_t h c3
    refine gw_aload_n 8 0 hC dX8_fail_8 rfl ?_
    refine gw_iload_n 9 1 hC dX8_fail_9 rfl ?_
    obtain ⟨s4, es4, h⟩ := bnd_e h
    refine mp_5 10 hC (MIn_self o) es4 dX8_fail_10 ?_
    refine gw_aload_n 13 0 hC dX8_fail_13 rfl ?_
    refine gw_iload_n 14 2 hC dX8_fail_14 rfl ?_
    obtain ⟨s5, es5, h⟩ := bnd_e h
    refine mp_6 15 hC (MIn_self o) es5 dX8_fail_15 ?_
    exact gw_vret 18 hC dX8_fail_18 h
  · replace h := if_f h c3
    exact gw_vret 7 hC dX8_fail_7 h
/-! asks([C)V -/
noncomputable def m_asks (a1 : Nat) (s0 : MS) : Option (Int × MS) :=
  if i32 (s0 5 0) = 0 then
    Option.bind (m_takes a1 s0) fun z3 =>
    if i32 z3.1 = 0 then
      Option.bind (m_fail 1 (z3.2 2 0) z3.2) fun z5 =>
      some (0, z5.2)
    else
      some (0, z3.2)
  else
    some (0, s0)
theorem met_asks {D : MD} {o : Nat} {a1 : Nat} {s0 : MS} {res : Int × MS} (h : m_asks a1 s0 = some res) (l : Launch) : GMet l yX8_asks cX8_asks 2 none 4 (MRp D o) (MK D) (mAd o) [.ref o, .ref (o + mO a1)] s0 0 res := by
  refine GMet.of [(0, .ref o), (1, .ref (o + mO a1))] (by decide) (MK_moved D) (Nat.le_of_ble_eq_true rfl) rfl ?_
  intro p e s m args below meth c hC
  have hC : GC p s m args meth c cX8_asks RX8 2 none (MK D) := hC
  unfold m_asks at h
  refine gw_aload_n 0 0 hC dX8_asks_0 rfl ?_
  refine mg_5 1 hC dX8_asks_1 ?_
  refine gw_if_ne 4 24 hC dX8_asks_4 (by decide) (fun c2 => ?_) (fun c2 => ?_)
  · replace h := if_f h c2
    exact gw_vret 24 hC dX8_asks_24 h
  · replace h := if_t h c2
    refine gw_aload_n 7 0 hC dX8_asks_7 rfl ?_
    refine gw_aload_n 8 1 hC dX8_asks_8 rfl ?_
    obtain ⟨z3, ez3, h⟩ := opt_e h
    refine gw_callV (As := [.ref (o + mO a1)]) (rest := []) (st' := [J z3.1]) 9 1 hC (met_takes ez3 l) (lw_V q2097 q2099 qs57 q161 q2100) (by decide +kernel) (by decide) (m_recv hC) rfl rfl (Nat.le_of_ble_eq_true rfl) dX8_asks_9 rfl ?_
    refine gw_if_ne 12 24 hC dX8_asks_12 (by decide) (fun c4 => ?_) (fun c4 => ?_)
    · replace h := if_f h c4
      exact gw_vret 24 hC dX8_asks_24 h
    · replace h := if_t h c4
      refine gw_aload_n 15 0 hC dX8_asks_15 rfl ?_
      refine gw_iconst 16 hC dX8_asks_16 ?_
      refine gw_aload_n 17 0 hC dX8_asks_17 rfl ?_
      refine mg_2 18 hC dX8_asks_18 ?_
      obtain ⟨z5, ez5, h⟩ := opt_e h
      refine gw_callV (As := [J 1, J (z3.2 2 0)]) (rest := []) (st' := []) 21 2 hC (met_fail ez5 l) (lw_V q2112 q2114 qs60 q161 q2115) (by decide +kernel) (by decide) (m_recv hC) rfl rfl (Nat.le_of_ble_eq_true rfl) dX8_asks_21 rfl ?_
      exact gw_vret 24 hC dX8_asks_24 h
/-! isDigit(I)Z -/
noncomputable def m_isDigit (a1 : Int) (s0 : MS) : Option (Int × MS) :=
  if i32 a1 < i32 48 then
    some (0, s0)
  else
    if i32 57 < i32 a1 then
      some (0, s0)
    else
      some (1, s0)
theorem met_isDigit {D : MD} {o : Nat} {a1 : Int} {s0 : MS} {res : Int × MS} (h : m_isDigit a1 s0 = some res) (l : Launch) : GMet l yX8_isDigit cX8_isDigit 1 (some .boolean) 1 (MRp D o) (MK D) (mAd o) [J a1] s0 1 res := by
  refine GMet.of [(0, J a1)] (by decide) (MK_moved D) (Nat.le_of_ble_eq_true rfl) rfl ?_
  intro p e s m args below meth c hC
  have hC : GC p s m args meth c cX8_isDigit RX8 1 (some .boolean) (MK D) := hC
  unfold m_isDigit at h
  refine gw_iload_n 0 0 hC dX8_isDigit_0 rfl ?_
  refine gw_bipush 1 hC dX8_isDigit_1 (by decide) ?_
  refine gw_icmp_lt 3 16 hC dX8_isDigit_3 (by decide) (fun c2 => ?_) (fun c2 => ?_)
  · replace h := if_t h c2
    refine gw_iconst 16 hC dX8_isDigit_16 ?_
    exact gw_zret 17 hC dX8_isDigit_17 (by decide) h
  · replace h := if_f h c2
    refine gw_iload_n 6 0 hC dX8_isDigit_6 rfl ?_
    refine gw_bipush 7 hC dX8_isDigit_7 (by decide) ?_
    refine gw_icmp_gt 9 16 hC dX8_isDigit_9 (by decide) (fun c3 => ?_) (fun c3 => ?_)
    · replace h := if_t h c3
      refine gw_iconst 16 hC dX8_isDigit_16 ?_
      exact gw_zret 17 hC dX8_isDigit_17 (by decide) h
    · replace h := if_f h c3
      refine gw_iconst 12 hC dX8_isDigit_12 ?_
      refine gw_goto 13 17 hC dX8_isDigit_13 (by decide) ?_
      exact gw_zret 17 hC dX8_isDigit_17 (by decide) h
/-! isIn(JJJ)Z -/
noncomputable def m_isIn (a1 : Int) (a2 : Int) (a3 : Int) (s0 : MS) : Option (Int × MS) :=
  if i64 a1 < i64 a2 then
    some (0, s0)
  else
    if i64 a3 < i64 a1 then
      some (0, s0)
    else
      some (1, s0)
theorem met_isIn {D : MD} {o : Nat} {a1 : Int} {a2 : Int} {a3 : Int} {s0 : MS} {res : Int × MS} (h : m_isIn a1 a2 a3 s0 = some res) (l : Launch) : GMet l yX8_isIn cX8_isIn 6 (some .boolean) 1 (MRp D o) (MK D) (mAd o) [Lg a1, Lg a2, Lg a3] s0 1 res := by
  refine GMet.of [(0, Lg a1), (2, Lg a2), (4, Lg a3)] (by decide) (MK_moved D) (Nat.le_of_ble_eq_true rfl) rfl ?_
  intro p e s m args below meth c hC
  have hC : GC p s m args meth c cX8_isIn RX8 6 (some .boolean) (MK D) := hC
  unfold m_isIn at h
  refine gw_lload_n 0 0 hC dX8_isIn_0 rfl ?_
  refine gw_lload_n 1 1 hC dX8_isIn_1 rfl ?_
  refine gw_lcmp_lt 2 17 hC dX8_isIn_2 dX8_isIn_3 (by decide) (fun c4 => ?_) (fun c4 => ?_)
  · replace h := if_t h c4
    refine gw_iconst 17 hC dX8_isIn_17 ?_
    exact gw_zret 18 hC dX8_isIn_18 (by decide) h
  · replace h := if_f h c4
    refine gw_lload_n 6 0 hC dX8_isIn_6 rfl ?_
    refine gw_lload 7 2 hC dX8_isIn_7 rfl ?_
    refine gw_lcmp_gt 9 17 hC dX8_isIn_9 dX8_isIn_10 (by decide) (fun c5 => ?_) (fun c5 => ?_)
    · replace h := if_t h c5
      refine gw_iconst 17 hC dX8_isIn_17 ?_
      exact gw_zret 18 hC dX8_isIn_18 (by decide) h
    · replace h := if_f h c5
      refine gw_iconst 13 hC dX8_isIn_13 ?_
      refine gw_goto 14 18 hC dX8_isIn_14 (by decide) ?_
      exact gw_zret 18 hC dX8_isIn_18 (by decide) h
/-! number(II)I -/
noncomputable def m_number_L49 (k129 : Int → Int → Int → Int → MS → Option (Int × MS)) (k85 : MS → Option (Int × MS)) : Nat → Int → Int → Int → Int → MS → Option (Int × MS)
  | 0, _, _, _, _, _ => none
  | n + 1, x1_13, x2_14, x3_15, x4_16, s17 =>
    if i32 (s17 3 0) ≤ i32 (s17 2 0) then
      k129 x1_13 x2_14 x3_15 x4_16 s17
    else
      gd (ok 1600 (s17 2 0)) <|
      Option.bind (m_isDigit (s17 0 (i32 (s17 2 0))) s17) fun z26 =>
      if i32 z26.1 = 0 then
        k129 x1_13 x2_14 x3_15 x4_16 z26.2
      else
        if i32 ((z26.2 2 0) - x3_15) = i32 4 then
          k85 z26.2
        else
          gd (ok 1600 (z26.2 2 0)) <|
          bnd (((10 * x4_16) + (z26.2 0 (i32 (z26.2 2 0)))) - 48) fun x4_30 =>
          bnd (up z26.2 2 0 ((z26.2 2 0) + 1)) fun s31 =>
          m_number_L49 k129 k85 n x1_13 x2_14 x3_15 x4_30 s31
noncomputable def m_number (a1 : Int) (a2 : Int) (s0 : MS) : Option (Int × MS) :=
  if i32 (s0 5 0) = 0 then
    Option.bind (m_look s0) fun z4 =>
    Option.bind (m_isDigit z4.1 z4.2) fun z5 =>
    bnd (fun (s6 : MS) =>
        Option.bind (m_fail 1 (s6 2 0) s6) fun z7 =>
        some (0, z7.2)) fun j8 =>
    if i32 z5.1 = 0 then
      j8 z5.2
    else
      if i32 (z5.2 2 0) = i32 (z5.2 4 0) then
        j8 z5.2
      else
        bnd (z5.2 2 0) fun x3_11 =>
        bnd 0 fun x4_12 =>
        m_number_L49
          (fun (x1_32 : Int) (x2_33 : Int) (x3_34 : Int) (x4_35 : Int) (s36 : MS) =>
            bnd (up s36 4 0 (s36 2 0)) fun s37 =>
            Option.bind (m_isIn (i32 x4_35) (i32 x1_32) (i32 x2_33) s37) fun z38 =>
            bnd (fun (x4_39 : Int) (s40 : MS) =>
                some (x4_39, s40)) fun j41 =>
            if i32 z38.1 = 0 then
              Option.bind (m_fail 2 x3_34 z38.2) fun z43 =>
              j41 x4_35 z43.2
            else
              j41 x4_35 z38.2)
          (fun (s44 : MS) =>
            Option.bind (m_fail 1 (s44 2 0) s44) fun z45 =>
            some (0, z45.2))
          FU a1 a2 x3_11 x4_12 z5.2
  else
    some (0, s0)
theorem wm_number_L49 {p : Program} {l : Launch} {e : Env} {s : State} {m : MethodId} {args : Array Value} {below : List Frame} {meth : Method} {c : Code} {D : MD} {o : Nat} {res : Int × MS} {k129 : Int → Int → Int → Int → MS → Option (Int × MS)} {k85 : MS → Option (Int × MS)} (hC : GC p s m args meth c cX8_number RX8 5 (some .int) (MK D)) (hk129 : ∀ (x1_18 : Int) (x2_19 : Int) (x3_20 : Int) (x4_21 : Int) (s22 : MS), k129 x1_18 x2_19 x3_20 x4_21 s22 = some res → GW p l e (rmd 2) s m args below meth c 5 (mAd o) (MRp D o) (MK D) 1 res s22 129 [(0, .ref o), (1, J x1_18), (2, J x2_19), (3, J x3_20), (4, J x4_21)] []) (hk85 : ∀ (s23 : MS), k85 s23 = some res → GW p l e (rmd 2) s m args below meth c 5 (mAd o) (MRp D o) (MK D) 1 res s23 85 [(0, .ref o)] []) : ∀ (n : Nat) (x1_13 : Int) (x2_14 : Int) (x3_15 : Int) (x4_16 : Int) (s17 : MS), m_number_L49 k129 k85 n x1_13 x2_14 x3_15 x4_16 s17 = some res → GW p l e (rmd 2) s m args below meth c 5 (mAd o) (MRp D o) (MK D) 1 res s17 49 [(0, .ref o), (1, J x1_13), (2, J x2_14), (3, J x3_15), (4, J x4_16)] [] := by
  intro n
  induction n with
  | zero =>
    intro x1_13 x2_14 x3_15 x4_16 s17 h
    cases h
  | succ n ih =>
    intro x1_13 x2_14 x3_15 x4_16 s17 h
    rw [m_number_L49] at h
    refine gw_aload_n 49 0 hC dX8_number_49 rfl ?_
    refine mg_2 50 hC dX8_number_50 ?_
    refine gw_aload_n 53 0 hC dX8_number_53 rfl ?_
    refine mg_3 54 hC dX8_number_54 ?_
    refine gw_icmp_ge 57 129 hC dX8_number_57 (by decide) (fun c24 => ?_) (fun c24 => ?_)
    · replace h := if_t h c24
      refine gw_sub [0, 1, 2, 3, 4] rfl ?_
      exact hk129 _ _ _ _ _ h
    · replace h := if_f h c24
      refine gw_aload_n 60 0 hC dX8_number_60 rfl ?_
      refine mg_0 61 hC dX8_number_61 ?_
      refine gw_aload_n 64 0 hC dX8_number_64 rfl ?_
      refine mg_2 65 hC dX8_number_65 ?_
      obtain ⟨g25, h⟩ := gd_e h
      refine m_iald 68 0 hC (by decide) rfl g25 dX8_number_68 ?_
      obtain ⟨z26, ez26, h⟩ := opt_e h
      refine gw_callS (As := [J (s17 0 (i32 (s17 2 0)))]) (rest := []) (st' := [J z26.1]) 69 1 hC (met_isDigit ez26 l) (lw_S q2120 q2121 q161 q2122) (by decide +kernel) (by decide) rfl rfl (Nat.le_of_ble_eq_true rfl) dX8_number_69 rfl ?_
      refine gw_if_eq 72 129 hC dX8_number_72 (by decide) (fun c27 => ?_) (fun c27 => ?_)
      · replace h := if_t h c27
        refine gw_sub [0, 1, 2, 3, 4] rfl ?_
        exact hk129 _ _ _ _ _ h
      · replace h := if_f h c27
        refine gw_aload_n 75 0 hC dX8_number_75 rfl ?_
        refine mg_2 76 hC dX8_number_76 ?_
        refine gw_iload_n 79 3 hC dX8_number_79 rfl ?_
        refine gw_isub 80 hC dX8_number_80 ?_
        refine gw_iconst 81 hC dX8_number_81 ?_
        refine gw_icmp_ne 82 96 hC dX8_number_82 (by decide) (fun c28 => ?_) (fun c28 => ?_)
        · replace h := if_f h c28
          refine gw_bipush 96 hC dX8_number_96 (by decide) ?_
          refine gw_iload 98 4 hC dX8_number_98 rfl ?_
          refine gw_imul 100 hC dX8_number_100 ?_
          refine gw_aload_n 101 0 hC dX8_number_101 rfl ?_
          refine mg_0 102 hC dX8_number_102 ?_
          refine gw_aload_n 105 0 hC dX8_number_105 rfl ?_
          refine mg_2 106 hC dX8_number_106 ?_
          obtain ⟨g29, h⟩ := gd_e h
          refine m_iald 109 0 hC (by decide) rfl g29 dX8_number_109 ?_
          refine gw_iadd 110 hC dX8_number_110 ?_
          refine gw_bipush 111 hC dX8_number_111 (by decide) ?_
          refine gw_isub 113 hC dX8_number_113 ?_
          obtain ⟨x4_30, ex4_30, h⟩ := bnd_e h
          refine gw_istore 114 [(4, J x4_30), (0, .ref o), (1, J x1_13), (2, J x2_14), (3, J x3_15)] hC dX8_number_114 (by decide) ex4_30 rfl ?_
          refine gw_aload_n 116 1 hC dX8_number_116 rfl ?_
          refine gw_dup 117 hC dX8_number_117 rfl ?_
          refine mg_2 118 hC dX8_number_118 ?_
          refine gw_iconst 121 hC dX8_number_121 ?_
          refine gw_iadd 122 hC dX8_number_122 ?_
          obtain ⟨s31, es31, h⟩ := bnd_e h
          refine mp_2 123 hC (MIn_self o) es31 dX8_number_123 ?_
          refine gw_goto 126 49 hC dX8_number_126 (by decide) ?_
          refine gw_sub [1, 2, 3, 4, 0] rfl ?_
          exact ih _ _ _ _ _ h
        · replace h := if_t h c28
          refine gw_sub [0] rfl ?_
          exact hk85 _ h
theorem met_number {D : MD} {o : Nat} {a1 : Int} {a2 : Int} {s0 : MS} {res : Int × MS} (h : m_number a1 a2 s0 = some res) (l : Launch) : GMet l yX8_number cX8_number 5 (some .int) 2 (MRp D o) (MK D) (mAd o) [.ref o, J a1, J a2] s0 1 res := by
  refine GMet.of [(0, .ref o), (1, J a1), (2, J a2)] (by decide) (MK_moved D) (Nat.le_of_ble_eq_true rfl) rfl ?_
  intro p e s m args below meth c hC
  have hC : GC p s m args meth c cX8_number RX8 5 (some .int) (MK D) := hC
  unfold m_number at h
  refine gw_aload_n 0 0 hC dX8_number_0 rfl ?_
  refine mg_5 1 hC dX8_number_1 ?_
  refine gw_if_eq 4 9 hC dX8_number_4 (by decide) (fun c3 => ?_) (fun c3 => ?_)
  · replace h := if_t h c3
    refine gw_aload_n 9 0 hC dX8_number_9 rfl ?_
    obtain ⟨z4, ez4, h⟩ := opt_e h
    refine gw_callV (As := []) (rest := []) (st' := [J z4.1]) 10 0 hC (met_look ez4 l) (lw_V q2105 q2107 qs59 q161 q2108) (by decide +kernel) (by decide) (m_recv hC) rfl rfl (Nat.le_of_ble_eq_true rfl) dX8_number_10 rfl ?_
    obtain ⟨z5, ez5, h⟩ := opt_e h
    refine gw_callS (As := [J z4.1]) (rest := []) (st' := [J z5.1]) 13 1 hC (met_isDigit ez5 l) (lw_S q2120 q2121 q161 q2122) (by decide +kernel) (by decide) rfl rfl (Nat.le_of_ble_eq_true rfl) dX8_number_13 rfl ?_
    obtain ⟨j8, ej8, h⟩ := bnd_e h
    have hj8 : ∀ (s6 : MS), j8 s6 = some res → GW p l e (rmd 2) s m args below meth c 5 (mAd o) (MRp D o) (MK D) 1 res s6 30 [(0, .ref o)] [] := by
      clear h
      intro s6 h
      subst ej8
      refine gw_aload_n 30 0 hC dX8_number_30 rfl ?_
      refine gw_iconst 31 hC dX8_number_31 ?_
      refine gw_aload_n 32 0 hC dX8_number_32 rfl ?_
      refine mg_2 33 hC dX8_number_33 ?_
      obtain ⟨z7, ez7, h⟩ := opt_e h
      refine gw_callV (As := [J 1, J (s6 2 0)]) (rest := []) (st' := []) 36 2 hC (met_fail ez7 l) (lw_V q2112 q2114 qs60 q161 q2115) (by decide +kernel) (by decide) (m_recv hC) rfl rfl (Nat.le_of_ble_eq_true rfl) dX8_number_36 rfl ?_
      refine gw_iconst 39 hC dX8_number_39 ?_
      exact gw_iret 40 hC dX8_number_40 h
    refine gw_if_eq 16 30 hC dX8_number_16 (by decide) (fun c9 => ?_) (fun c9 => ?_)
    · replace h := if_t h c9
      refine gw_sub [0] rfl ?_
      exact hj8 _ h
    · replace h := if_f h c9
      refine gw_aload_n 19 0 hC dX8_number_19 rfl ?_
      refine mg_2 20 hC dX8_number_20 ?_
      refine gw_aload_n 23 0 hC dX8_number_23 rfl ?_
      refine mg_4 24 hC dX8_number_24 ?_
      refine gw_icmp_ne 27 41 hC dX8_number_27 (by decide) (fun c10 => ?_) (fun c10 => ?_)
      · replace h := if_f h c10
        refine gw_aload_n 41 0 hC dX8_number_41 rfl ?_
        refine mg_2 42 hC dX8_number_42 ?_
        obtain ⟨x3_11, ex3_11, h⟩ := bnd_e h
        refine gw_istore_n 45 [(3, J x3_11), (0, .ref o), (1, J a1), (2, J a2)] hC dX8_number_45 (by decide) ex3_11 rfl ?_
        refine gw_iconst 46 hC dX8_number_46 ?_
        obtain ⟨x4_12, ex4_12, h⟩ := bnd_e h
        refine gw_istore 47 [(4, J x4_12), (3, J x3_11), (0, .ref o), (1, J a1), (2, J a2)] hC dX8_number_47 (by decide) ex4_12 rfl ?_
        refine gw_sub [2, 3, 4, 1, 0] rfl ?_
        refine wm_number_L49 hC (fun x1_32 x2_33 x3_34 x4_35 s36 h => ?_) (fun s44 h => ?_) FU _ _ _ _ _ h
        · refine gw_aload_n 129 0 hC dX8_number_129 rfl ?_
          refine gw_aload_n 130 0 hC dX8_number_130 rfl ?_
          refine mg_2 131 hC dX8_number_131 ?_
          obtain ⟨s37, es37, h⟩ := bnd_e h
          refine mp_4 134 hC (MIn_self o) es37 dX8_number_134 ?_
          refine gw_iload 137 4 hC dX8_number_137 rfl ?_
          refine gw_i2l 139 hC dX8_number_139 ?_
          refine gw_iload_n 140 1 hC dX8_number_140 rfl ?_
          refine gw_i2l 141 hC dX8_number_141 ?_
          refine gw_iload_n 142 2 hC dX8_number_142 rfl ?_
          refine gw_i2l 143 hC dX8_number_143 ?_
          obtain ⟨z38, ez38, h⟩ := opt_e h
          refine gw_callS (As := [Lg (i32 x4_35), Lg (i32 x1_32), Lg (i32 x2_33)]) (rest := []) (st' := [J z38.1]) 144 3 hC (met_isIn ez38 l) (lw_S q2123 q2124 q161 q2125) (by decide +kernel) (by decide) rfl rfl (Nat.le_of_ble_eq_true rfl) dX8_number_144 rfl ?_
          obtain ⟨j41, ej41, h⟩ := bnd_e h
          have hj41 : ∀ (x4_39 : Int) (s40 : MS), j41 x4_39 s40 = some res → GW p l e (rmd 2) s m args below meth c 5 (mAd o) (MRp D o) (MK D) 1 res s40 156 [(4, J x4_39)] [] := by
            clear h
            intro x4_39 s40 h
            subst ej41
            refine gw_iload 156 0 hC dX8_number_156 rfl ?_
            exact gw_iret 158 hC dX8_number_158 h
          refine gw_if_ne 147 156 hC dX8_number_147 (by decide) (fun c42 => ?_) (fun c42 => ?_)
          · replace h := if_f h c42
            refine gw_sub [4] rfl ?_
            exact hj41 _ _ h
          · replace h := if_t h c42
            refine gw_aload_n 150 0 hC dX8_number_150 rfl ?_
            refine gw_iconst 151 hC dX8_number_151 ?_
            refine gw_iload_n 152 3 hC dX8_number_152 rfl ?_
            obtain ⟨z43, ez43, h⟩ := opt_e h
            refine gw_callV (As := [J 2, J x3_34]) (rest := []) (st' := []) 153 2 hC (met_fail ez43 l) (lw_V q2112 q2114 qs60 q161 q2115) (by decide +kernel) (by decide) (m_recv hC) rfl rfl (Nat.le_of_ble_eq_true rfl) dX8_number_153 rfl ?_
            refine gw_sub [4] rfl ?_
            exact hj41 _ _ h
        · refine gw_aload_n 85 0 hC dX8_number_85 rfl ?_
          refine gw_iconst 86 hC dX8_number_86 ?_
          refine gw_aload_n 87 0 hC dX8_number_87 rfl ?_
          refine mg_2 88 hC dX8_number_88 ?_
          obtain ⟨z45, ez45, h⟩ := opt_e h
          refine gw_callV (As := [J 1, J (s44 2 0)]) (rest := []) (st' := []) 91 2 hC (met_fail ez45 l) (lw_V q2112 q2114 qs60 q161 q2115) (by decide +kernel) (by decide) (m_recv hC) rfl rfl (Nat.le_of_ble_eq_true rfl) dX8_number_91 rfl ?_
          refine gw_iconst 94 hC dX8_number_94 ?_
          exact gw_iret 95 hC dX8_number_95 h
      · replace h := if_t h c10
        refine gw_sub [0] rfl ?_
        exact hj8 _ h
  · replace h := if_f h c3
    refine gw_iconst 7 hC dX8_number_7 ?_
    exact gw_iret 8 hC dX8_number_8 h
/-! takesSign(I)Z -/
noncomputable def m_takesSign (a1 : Int) (s0 : MS) : Option (Int × MS) :=
  if i32 (s0 5 0) = 0 then
    Option.bind (m_look s0) fun z3 =>
    if i32 z3.1 = i32 a1 then
      bnd (up z3.2 2 0 ((z3.2 2 0) + 1)) fun s5 =>
      some (1, s5)
    else
      some (0, z3.2)
  else
    some (0, s0)
theorem met_takesSign {D : MD} {o : Nat} {a1 : Int} {s0 : MS} {res : Int × MS} (h : m_takesSign a1 s0 = some res) (l : Launch) : GMet l yX8_takesSign cX8_takesSign 2 (some .boolean) 2 (MRp D o) (MK D) (mAd o) [.ref o, J a1] s0 1 res := by
  refine GMet.of [(0, .ref o), (1, J a1)] (by decide) (MK_moved D) (Nat.le_of_ble_eq_true rfl) rfl ?_
  intro p e s m args below meth c hC
  have hC : GC p s m args meth c cX8_takesSign RX8 2 (some .boolean) (MK D) := hC
  unfold m_takesSign at h
  refine gw_aload_n 0 0 hC dX8_takesSign_0 rfl ?_
  refine mg_5 1 hC dX8_takesSign_1 ?_
  refine gw_if_ne 4 15 hC dX8_takesSign_4 (by decide) (fun c2 => ?_) (fun c2 => ?_)
  · replace h := if_f h c2
    refine gw_iconst 15 hC dX8_takesSign_15 ?_
    exact gw_zret 16 hC dX8_takesSign_16 (by decide) h
  · replace h := if_t h c2
    refine gw_aload_n 7 0 hC dX8_takesSign_7 rfl ?_
    obtain ⟨z3, ez3, h⟩ := opt_e h
    refine gw_callV (As := []) (rest := []) (st' := [J z3.1]) 8 0 hC (met_look ez3 l) (lw_V q2105 q2107 qs59 q161 q2108) (by decide +kernel) (by decide) (m_recv hC) rfl rfl (Nat.le_of_ble_eq_true rfl) dX8_takesSign_8 rfl ?_
    refine gw_iload_n 11 1 hC dX8_takesSign_11 rfl ?_
    refine gw_icmp_eq 12 17 hC dX8_takesSign_12 (by decide) (fun c4 => ?_) (fun c4 => ?_)
    · replace h := if_t h c4
      refine gw_aload_n 17 0 hC dX8_takesSign_17 rfl ?_
      refine gw_dup 18 hC dX8_takesSign_18 rfl ?_
      refine mg_2 19 hC dX8_takesSign_19 ?_
      refine gw_iconst 22 hC dX8_takesSign_22 ?_
      refine gw_iadd 23 hC dX8_takesSign_23 ?_
      obtain ⟨s5, es5, h⟩ := bnd_e h
      refine mp_2 24 hC (MIn_self o) es5 dX8_takesSign_24 ?_
      refine gw_iconst 27 hC dX8_takesSign_27 ?_
      exact gw_zret 28 hC dX8_takesSign_28 (by decide) h
    · replace h := if_f h c4
      refine gw_iconst 15 hC dX8_takesSign_15 ?_
      exact gw_zret 16 hC dX8_takesSign_16 (by decide) h
/-! asksSign(I)V -/
noncomputable def m_asksSign (a1 : Int) (s0 : MS) : Option (Int × MS) :=
  if i32 (s0 5 0) = 0 then
    Option.bind (m_takesSign a1 s0) fun z3 =>
    if i32 z3.1 = 0 then
      Option.bind (m_fail 1 (z3.2 2 0) z3.2) fun z5 =>
      some (0, z5.2)
    else
      some (0, z3.2)
  else
    some (0, s0)
theorem met_asksSign {D : MD} {o : Nat} {a1 : Int} {s0 : MS} {res : Int × MS} (h : m_asksSign a1 s0 = some res) (l : Launch) : GMet l yX8_asksSign cX8_asksSign 2 none 3 (MRp D o) (MK D) (mAd o) [.ref o, J a1] s0 0 res := by
  refine GMet.of [(0, .ref o), (1, J a1)] (by decide) (MK_moved D) (Nat.le_of_ble_eq_true rfl) rfl ?_
  intro p e s m args below meth c hC
  have hC : GC p s m args meth c cX8_asksSign RX8 2 none (MK D) := hC
  unfold m_asksSign at h
  refine gw_aload_n 0 0 hC dX8_asksSign_0 rfl ?_
  refine mg_5 1 hC dX8_asksSign_1 ?_
  refine gw_if_ne 4 24 hC dX8_asksSign_4 (by decide) (fun c2 => ?_) (fun c2 => ?_)
  · replace h := if_f h c2
    exact gw_vret 24 hC dX8_asksSign_24 h
  · replace h := if_t h c2
    refine gw_aload_n 7 0 hC dX8_asksSign_7 rfl ?_
    refine gw_iload_n 8 1 hC dX8_asksSign_8 rfl ?_
    obtain ⟨z3, ez3, h⟩ := opt_e h
    refine gw_callV (As := [J a1]) (rest := []) (st' := [J z3.1]) 9 1 hC (met_takesSign ez3 l) (lw_V q2130 q2132 qs63 q161 q2133) (by decide +kernel) (by decide) (m_recv hC) rfl rfl (Nat.le_of_ble_eq_true rfl) dX8_asksSign_9 rfl ?_
    refine gw_if_ne 12 24 hC dX8_asksSign_12 (by decide) (fun c4 => ?_) (fun c4 => ?_)
    · replace h := if_f h c4
      exact gw_vret 24 hC dX8_asksSign_24 h
    · replace h := if_t h c4
      refine gw_aload_n 15 0 hC dX8_asksSign_15 rfl ?_
      refine gw_iconst 16 hC dX8_asksSign_16 ?_
      refine gw_aload_n 17 0 hC dX8_asksSign_17 rfl ?_
      refine mg_2 18 hC dX8_asksSign_18 ?_
      obtain ⟨z5, ez5, h⟩ := opt_e h
      refine gw_callV (As := [J 1, J (z3.2 2 0)]) (rest := []) (st' := []) 21 2 hC (met_fail ez5 l) (lw_V q2112 q2114 qs60 q161 q2115) (by decide +kernel) (by decide) (m_recv hC) rfl rfl (Nat.le_of_ble_eq_true rfl) dX8_asksSign_21 rfl ?_
      exact gw_vret 24 hC dX8_asksSign_24 h
/-! duskTold()V -/
noncomputable def m_duskTold (s0 : MS) : Option (Int × MS) :=
  Option.bind (m_asks 10 s0) fun z1 =>
  Option.bind (m_number 1 99 z1.2) fun z2 =>
  gd (ok 4 0) <|
  bnd (up z2.2 35 (i32 0) z2.1) fun s4 =>
  Option.bind (m_asksSign 59 s4) fun z5 =>
  some (0, z5.2)
theorem met_duskTold {D : MD} {o : Nat} {s0 : MS} {res : Int × MS} (h : m_duskTold s0 = some res) (l : Launch) : GMet l yX8_duskTold cX8_duskTold 1 none 5 (MRp D o) (MK D) (mAd o) [.ref o] s0 0 res := by
  refine GMet.of [(0, .ref o)] (by decide) (MK_moved D) (Nat.le_of_ble_eq_true rfl) rfl ?_
  intro p e s m args below meth c hC
  have hC : GC p s m args meth c cX8_duskTold RX8 1 none (MK D) := hC
  unfold m_duskTold at h
  refine gw_aload_n 0 0 hC dX8_duskTold_0 rfl ?_
  refine gw_aload_n 1 0 hC dX8_duskTold_1 rfl ?_
  refine mg_10 2 hC dX8_duskTold_2 ?_
  obtain ⟨z1, ez1, h⟩ := opt_e h
  refine gw_callV (As := [.ref (o + mO 10)]) (rest := []) (st' := []) 5 1 hC (met_asks ez1 l) (lw_V q2093 q2095 qs56 q161 q2096) (by decide +kernel) (by decide) (m_recv hC) rfl rfl (Nat.le_of_ble_eq_true rfl) dX8_duskTold_5 rfl ?_
  refine gw_aload_n 8 0 hC dX8_duskTold_8 rfl ?_
  refine mg_35 9 hC dX8_duskTold_9 ?_
  refine gw_iconst 12 hC dX8_duskTold_12 ?_
  refine gw_aload_n 13 0 hC dX8_duskTold_13 rfl ?_
  refine gw_iconst 14 hC dX8_duskTold_14 ?_
  refine gw_bipush 15 hC dX8_duskTold_15 (by decide) ?_
  obtain ⟨z2, ez2, h⟩ := opt_e h
  refine gw_callV (As := [J 1, J 99]) (rest := [J 0, .ref (o + mO 35)]) (st' := [J z2.1, J 0, .ref (o + mO 35)]) 17 2 hC (met_number ez2 l) (lw_V q2116 q2118 qs61 q161 q2119) (by decide +kernel) (by decide) (m_recv hC) rfl rfl (Nat.le_of_ble_eq_true rfl) dX8_duskTold_17 rfl ?_
  obtain ⟨g3, h⟩ := gd_e h
  obtain ⟨s4, es4, h⟩ := bnd_e h
  refine m_iast 20 35 hC (MIn_self o) (by decide) rfl g3 es4 dX8_duskTold_20 ?_
  refine gw_aload_n 21 0 hC dX8_duskTold_21 rfl ?_
  refine gw_bipush 22 hC dX8_duskTold_22 (by decide) ?_
  obtain ⟨z5, ez5, h⟩ := opt_e h
  refine gw_callV (As := [J 59]) (rest := []) (st' := []) 24 1 hC (met_asksSign ez5 l) (lw_V q2126 q2128 qs62 q161 q2129) (by decide +kernel) (by decide) (m_recv hC) rfl rfl (Nat.le_of_ble_eq_true rfl) dX8_duskTold_24 rfl ?_
  exact gw_vret 27 hC dX8_duskTold_27 h
/-! isOwnHere()Z -/
noncomputable def m_isOwnHere (s0 : MS) : Option (Int × MS) :=
  Option.bind (m_isHere 10 s0) fun z1 =>
  bnd (fun (w2 : Int) (s3 : MS) =>
      bnd (fun (w4 : Int) (s5 : MS) =>
          bnd (fun (w6 : Int) (s7 : MS) =>
              bnd (fun (w8 : Int) (s9 : MS) =>
                  gd (bz w8) <|
                  some (w8, s9)) fun j11 =>
              bnd (fun (s12 : MS) =>
                  j11 1 s12) fun j13 =>
              if i32 w6 = 0 then
                Option.bind (m_isHere 28 s7) fun z15 =>
                if i32 z15.1 = 0 then
                  Option.bind (m_isHere 29 z15.2) fun z17 =>
                  if i32 z17.1 = 0 then
                    Option.bind (m_isHere 30 z17.2) fun z19 =>
                    if i32 z19.1 = 0 then
                      Option.bind (m_isHere 31 z19.2) fun z21 =>
                      if i32 z21.1 = 0 then
                        Option.bind (m_isHere 32 z21.2) fun z23 =>
                        if i32 z23.1 = 0 then
                          Option.bind (m_isHere 33 z23.2) fun z25 =>
                          if i32 z25.1 = 0 then
                            j11 0 z25.2
                          else
                            j13 z25.2
                        else
                          j13 z23.2
                      else
                        j13 z21.2
                    else
                      j13 z19.2
                  else
                    j13 z17.2
                else
                  j13 z15.2
              else
                j13 s7) fun j27 =>
          bnd (fun (s28 : MS) =>
              j27 1 s28) fun j29 =>
          if i32 w4 = 0 then
            Option.bind (m_isHere 22 s5) fun z31 =>
            if i32 z31.1 = 0 then
              Option.bind (m_isHere 23 z31.2) fun z33 =>
              if i32 z33.1 = 0 then
                Option.bind (m_isHere 24 z33.2) fun z35 =>
                if i32 z35.1 = 0 then
                  Option.bind (m_isHere 25 z35.2) fun z37 =>
                  if i32 z37.1 = 0 then
                    Option.bind (m_isHere 26 z37.2) fun z39 =>
                    if i32 z39.1 = 0 then
                      Option.bind (m_isHere 27 z39.2) fun z41 =>
                      if i32 z41.1 = 0 then
                        j27 0 z41.2
                      else
                        j29 z41.2
                    else
                      j29 z39.2
                  else
                    j29 z37.2
                else
                  j29 z35.2
              else
                j29 z33.2
            else
              j29 z31.2
          else
            j29 s5) fun j43 =>
      bnd (fun (s44 : MS) =>
          j43 1 s44) fun j45 =>
      if i32 w2 = 0 then
        Option.bind (m_isHere 16 s3) fun z47 =>
        if i32 z47.1 = 0 then
          Option.bind (m_isHere 17 z47.2) fun z49 =>
          if i32 z49.1 = 0 then
            Option.bind (m_isHere 18 z49.2) fun z51 =>
            if i32 z51.1 = 0 then
              Option.bind (m_isHere 19 z51.2) fun z53 =>
              if i32 z53.1 = 0 then
                Option.bind (m_isHere 20 z53.2) fun z55 =>
                if i32 z55.1 = 0 then
                  Option.bind (m_isHere 21 z55.2) fun z57 =>
                  if i32 z57.1 = 0 then
                    j43 0 z57.2
                  else
                    j45 z57.2
                else
                  j45 z55.2
              else
                j45 z53.2
            else
              j45 z51.2
          else
            j45 z49.2
        else
          j45 z47.2
      else
        j45 s3) fun j59 =>
  bnd (fun (s60 : MS) =>
      j59 1 s60) fun j61 =>
  if i32 z1.1 = 0 then
    Option.bind (m_isHere 11 z1.2) fun z63 =>
    if i32 z63.1 = 0 then
      Option.bind (m_isHere 12 z63.2) fun z65 =>
      if i32 z65.1 = 0 then
        Option.bind (m_isHere 13 z65.2) fun z67 =>
        if i32 z67.1 = 0 then
          Option.bind (m_isHere 14 z67.2) fun z69 =>
          if i32 z69.1 = 0 then
            Option.bind (m_isHere 15 z69.2) fun z71 =>
            if i32 z71.1 = 0 then
              j59 0 z71.2
            else
              j61 z71.2
          else
            j61 z69.2
        else
          j61 z67.2
      else
        j61 z65.2
    else
      j61 z63.2
  else
    j61 z1.2
theorem met_isOwnHere {D : MD} {o : Nat} {s0 : MS} {res : Int × MS} (h : m_isOwnHere s0 = some res) (l : Launch) : GMet l yX8_isOwnHere cX8_isOwnHere 2 (some .boolean) 3 (MRp D o) (MK D) (mAd o) [.ref o] s0 1 res := by
  refine GMet.of [(0, .ref o)] (by decide) (MK_moved D) (Nat.le_of_ble_eq_true rfl) rfl ?_
  intro p e s m args below meth c hC
  have hC : GC p s m args meth c cX8_isOwnHere RX8 2 (some .boolean) (MK D) := hC
  unfold m_isOwnHere at h
  refine gw_aload_n 0 0 hC dX8_isOwnHere_0 rfl ?_
  refine gw_aload_n 1 0 hC dX8_isOwnHere_1 rfl ?_
  refine mg_10 2 hC dX8_isOwnHere_2 ?_
  obtain ⟨z1, ez1, h⟩ := opt_e h
  refine gw_callV (As := [.ref (o + mO 10)]) (rest := []) (st' := [J z1.1]) 5 1 hC (met_isHere ez1 l) (lw_V q2101 q2103 qs58 q161 q2104) (by decide +kernel) (by decide) (m_recv hC) rfl rfl (Nat.le_of_ble_eq_true rfl) dX8_isOwnHere_5 rfl ?_
  obtain ⟨j59, ej59, h⟩ := bnd_e h
  have hj59 : ∀ (w2 : Int) (s3 : MS), j59 w2 s3 = some res → GW p l e (rmd 3) s m args below meth c 2 (mAd o) (MRp D o) (MK D) 1 res s3 71 [(0, .ref o)] [J w2] := by
    clear h
    intro w2 s3 h
    subst ej59
    refine gw_istore_n 71 [(1, J w2), (0, .ref o)] hC dX8_isOwnHere_71 (by decide) rfl rfl ?_
    refine gw_iload_n 72 0 hC dX8_isOwnHere_72 rfl ?_
    obtain ⟨j43, ej43, h⟩ := bnd_e h
    have hj43 : ∀ (w4 : Int) (s5 : MS), j43 w4 s5 = some res → GW p l e (rmd 3) s m args below meth c 2 (mAd o) (MRp D o) (MK D) 1 res s5 147 [(0, .ref o)] [J w4] := by
      clear h
      intro w4 s5 h
      subst ej43
      refine gw_istore_n 147 [(1, J w4), (0, .ref o)] hC dX8_isOwnHere_147 (by decide) rfl rfl ?_
      refine gw_iload_n 148 0 hC dX8_isOwnHere_148 rfl ?_
      obtain ⟨j27, ej27, h⟩ := bnd_e h
      have hj27 : ∀ (w6 : Int) (s7 : MS), j27 w6 s7 = some res → GW p l e (rmd 3) s m args below meth c 2 (mAd o) (MRp D o) (MK D) 1 res s7 223 [(0, .ref o)] [J w6] := by
        clear h
        intro w6 s7 h
        subst ej27
        refine gw_istore_n 223 [(1, J w6), (0, .ref o)] hC dX8_isOwnHere_223 (by decide) rfl rfl ?_
        refine gw_iload_n 224 0 hC dX8_isOwnHere_224 rfl ?_
        obtain ⟨j11, ej11, h⟩ := bnd_e h
        have hj11 : ∀ (w8 : Int) (s9 : MS), j11 w8 s9 = some res → GW p l e (rmd 3) s m args below meth c 2 (mAd o) (MRp D o) (MK D) 1 res s9 299 [] [J w8] := by
          clear h
          intro w8 s9 h
          subst ej11
          refine gw_istore_n 299 [(1, J w8)] hC dX8_isOwnHere_299 (by decide) rfl rfl ?_
          refine gw_iload_n 300 0 hC dX8_isOwnHere_300 rfl ?_
          obtain ⟨g10, h⟩ := gd_e h
          exact gw_zret 301 hC dX8_isOwnHere_301 g10 h
        obtain ⟨j13, ej13, h⟩ := bnd_e h
        have hj13 : ∀ (s12 : MS), j13 s12 = some res → GW p l e (rmd 3) s m args below meth c 2 (mAd o) (MRp D o) (MK D) 1 res s12 294 [] [] := by
          clear h
          intro s12 h
          subst ej13
          refine gw_iconst 294 hC dX8_isOwnHere_294 ?_
          refine gw_goto 295 299 hC dX8_isOwnHere_295 (by decide) ?_
          refine gw_sub [] rfl ?_
          exact hj11 _ _ h
        refine gw_if_ne 225 294 hC dX8_isOwnHere_225 (by decide) (fun c14 => ?_) (fun c14 => ?_)
        · replace h := if_f h c14
          refine gw_sub [] rfl ?_
          exact hj13 _ h
        · replace h := if_t h c14
          refine gw_aload_n 228 1 hC dX8_isOwnHere_228 rfl ?_
          refine gw_aload_n 229 1 hC dX8_isOwnHere_229 rfl ?_
          refine mg_28 230 hC dX8_isOwnHere_230 ?_
          obtain ⟨z15, ez15, h⟩ := opt_e h
          refine gw_callV (As := [.ref (o + mO 28)]) (rest := []) (st' := [J z15.1]) 233 1 hC (met_isHere ez15 l) (lw_V q2101 q2103 qs58 q161 q2104) (by decide +kernel) (by decide) (m_recv hC) rfl rfl (Nat.le_of_ble_eq_true rfl) dX8_isOwnHere_233 rfl ?_
          refine gw_if_ne 236 294 hC dX8_isOwnHere_236 (by decide) (fun c16 => ?_) (fun c16 => ?_)
          · replace h := if_f h c16
            refine gw_sub [] rfl ?_
            exact hj13 _ h
          · replace h := if_t h c16
            refine gw_aload_n 239 1 hC dX8_isOwnHere_239 rfl ?_
            refine gw_aload_n 240 1 hC dX8_isOwnHere_240 rfl ?_
            refine mg_29 241 hC dX8_isOwnHere_241 ?_
            obtain ⟨z17, ez17, h⟩ := opt_e h
            refine gw_callV (As := [.ref (o + mO 29)]) (rest := []) (st' := [J z17.1]) 244 1 hC (met_isHere ez17 l) (lw_V q2101 q2103 qs58 q161 q2104) (by decide +kernel) (by decide) (m_recv hC) rfl rfl (Nat.le_of_ble_eq_true rfl) dX8_isOwnHere_244 rfl ?_
            refine gw_if_ne 247 294 hC dX8_isOwnHere_247 (by decide) (fun c18 => ?_) (fun c18 => ?_)
            · replace h := if_f h c18
              refine gw_sub [] rfl ?_
              exact hj13 _ h
            · replace h := if_t h c18
              refine gw_aload_n 250 1 hC dX8_isOwnHere_250 rfl ?_
              refine gw_aload_n 251 1 hC dX8_isOwnHere_251 rfl ?_
              refine mg_30 252 hC dX8_isOwnHere_252 ?_
              obtain ⟨z19, ez19, h⟩ := opt_e h
              refine gw_callV (As := [.ref (o + mO 30)]) (rest := []) (st' := [J z19.1]) 255 1 hC (met_isHere ez19 l) (lw_V q2101 q2103 qs58 q161 q2104) (by decide +kernel) (by decide) (m_recv hC) rfl rfl (Nat.le_of_ble_eq_true rfl) dX8_isOwnHere_255 rfl ?_
              refine gw_if_ne 258 294 hC dX8_isOwnHere_258 (by decide) (fun c20 => ?_) (fun c20 => ?_)
              · replace h := if_f h c20
                refine gw_sub [] rfl ?_
                exact hj13 _ h
              · replace h := if_t h c20
                refine gw_aload_n 261 1 hC dX8_isOwnHere_261 rfl ?_
                refine gw_aload_n 262 1 hC dX8_isOwnHere_262 rfl ?_
                refine mg_31 263 hC dX8_isOwnHere_263 ?_
                obtain ⟨z21, ez21, h⟩ := opt_e h
                refine gw_callV (As := [.ref (o + mO 31)]) (rest := []) (st' := [J z21.1]) 266 1 hC (met_isHere ez21 l) (lw_V q2101 q2103 qs58 q161 q2104) (by decide +kernel) (by decide) (m_recv hC) rfl rfl (Nat.le_of_ble_eq_true rfl) dX8_isOwnHere_266 rfl ?_
                refine gw_if_ne 269 294 hC dX8_isOwnHere_269 (by decide) (fun c22 => ?_) (fun c22 => ?_)
                · replace h := if_f h c22
                  refine gw_sub [] rfl ?_
                  exact hj13 _ h
                · replace h := if_t h c22
                  refine gw_aload_n 272 1 hC dX8_isOwnHere_272 rfl ?_
                  refine gw_aload_n 273 1 hC dX8_isOwnHere_273 rfl ?_
                  refine mg_32 274 hC dX8_isOwnHere_274 ?_
                  obtain ⟨z23, ez23, h⟩ := opt_e h
                  refine gw_callV (As := [.ref (o + mO 32)]) (rest := []) (st' := [J z23.1]) 277 1 hC (met_isHere ez23 l) (lw_V q2101 q2103 qs58 q161 q2104) (by decide +kernel) (by decide) (m_recv hC) rfl rfl (Nat.le_of_ble_eq_true rfl) dX8_isOwnHere_277 rfl ?_
                  refine gw_if_ne 280 294 hC dX8_isOwnHere_280 (by decide) (fun c24 => ?_) (fun c24 => ?_)
                  · replace h := if_f h c24
                    refine gw_sub [] rfl ?_
                    exact hj13 _ h
                  · replace h := if_t h c24
                    refine gw_aload_n 283 1 hC dX8_isOwnHere_283 rfl ?_
                    refine gw_aload_n 284 1 hC dX8_isOwnHere_284 rfl ?_
                    refine mg_33 285 hC dX8_isOwnHere_285 ?_
                    obtain ⟨z25, ez25, h⟩ := opt_e h
                    refine gw_callV (As := [.ref (o + mO 33)]) (rest := []) (st' := [J z25.1]) 288 1 hC (met_isHere ez25 l) (lw_V q2101 q2103 qs58 q161 q2104) (by decide +kernel) (by decide) (m_recv hC) rfl rfl (Nat.le_of_ble_eq_true rfl) dX8_isOwnHere_288 rfl ?_
                    refine gw_if_eq 291 298 hC dX8_isOwnHere_291 (by decide) (fun c26 => ?_) (fun c26 => ?_)
                    · replace h := if_t h c26
                      refine gw_iconst 298 hC dX8_isOwnHere_298 ?_
                      refine gw_sub [] rfl ?_
                      exact hj11 _ _ h
                    · replace h := if_f h c26
                      refine gw_sub [] rfl ?_
                      exact hj13 _ h
      obtain ⟨j29, ej29, h⟩ := bnd_e h
      have hj29 : ∀ (s28 : MS), j29 s28 = some res → GW p l e (rmd 3) s m args below meth c 2 (mAd o) (MRp D o) (MK D) 1 res s28 218 [(0, .ref o)] [] := by
        clear h
        intro s28 h
        subst ej29
        refine gw_iconst 218 hC dX8_isOwnHere_218 ?_
        refine gw_goto 219 223 hC dX8_isOwnHere_219 (by decide) ?_
        refine gw_sub [0] rfl ?_
        exact hj27 _ _ h
      refine gw_if_ne 149 218 hC dX8_isOwnHere_149 (by decide) (fun c30 => ?_) (fun c30 => ?_)
      · replace h := if_f h c30
        refine gw_sub [1] rfl ?_
        exact hj29 _ h
      · replace h := if_t h c30
        refine gw_aload_n 152 1 hC dX8_isOwnHere_152 rfl ?_
        refine gw_aload_n 153 1 hC dX8_isOwnHere_153 rfl ?_
        refine mg_22 154 hC dX8_isOwnHere_154 ?_
        obtain ⟨z31, ez31, h⟩ := opt_e h
        refine gw_callV (As := [.ref (o + mO 22)]) (rest := []) (st' := [J z31.1]) 157 1 hC (met_isHere ez31 l) (lw_V q2101 q2103 qs58 q161 q2104) (by decide +kernel) (by decide) (m_recv hC) rfl rfl (Nat.le_of_ble_eq_true rfl) dX8_isOwnHere_157 rfl ?_
        refine gw_if_ne 160 218 hC dX8_isOwnHere_160 (by decide) (fun c32 => ?_) (fun c32 => ?_)
        · replace h := if_f h c32
          refine gw_sub [1] rfl ?_
          exact hj29 _ h
        · replace h := if_t h c32
          refine gw_aload_n 163 1 hC dX8_isOwnHere_163 rfl ?_
          refine gw_aload_n 164 1 hC dX8_isOwnHere_164 rfl ?_
          refine mg_23 165 hC dX8_isOwnHere_165 ?_
          obtain ⟨z33, ez33, h⟩ := opt_e h
          refine gw_callV (As := [.ref (o + mO 23)]) (rest := []) (st' := [J z33.1]) 168 1 hC (met_isHere ez33 l) (lw_V q2101 q2103 qs58 q161 q2104) (by decide +kernel) (by decide) (m_recv hC) rfl rfl (Nat.le_of_ble_eq_true rfl) dX8_isOwnHere_168 rfl ?_
          refine gw_if_ne 171 218 hC dX8_isOwnHere_171 (by decide) (fun c34 => ?_) (fun c34 => ?_)
          · replace h := if_f h c34
            refine gw_sub [1] rfl ?_
            exact hj29 _ h
          · replace h := if_t h c34
            refine gw_aload_n 174 1 hC dX8_isOwnHere_174 rfl ?_
            refine gw_aload_n 175 1 hC dX8_isOwnHere_175 rfl ?_
            refine mg_24 176 hC dX8_isOwnHere_176 ?_
            obtain ⟨z35, ez35, h⟩ := opt_e h
            refine gw_callV (As := [.ref (o + mO 24)]) (rest := []) (st' := [J z35.1]) 179 1 hC (met_isHere ez35 l) (lw_V q2101 q2103 qs58 q161 q2104) (by decide +kernel) (by decide) (m_recv hC) rfl rfl (Nat.le_of_ble_eq_true rfl) dX8_isOwnHere_179 rfl ?_
            refine gw_if_ne 182 218 hC dX8_isOwnHere_182 (by decide) (fun c36 => ?_) (fun c36 => ?_)
            · replace h := if_f h c36
              refine gw_sub [1] rfl ?_
              exact hj29 _ h
            · replace h := if_t h c36
              refine gw_aload_n 185 1 hC dX8_isOwnHere_185 rfl ?_
              refine gw_aload_n 186 1 hC dX8_isOwnHere_186 rfl ?_
              refine mg_25 187 hC dX8_isOwnHere_187 ?_
              obtain ⟨z37, ez37, h⟩ := opt_e h
              refine gw_callV (As := [.ref (o + mO 25)]) (rest := []) (st' := [J z37.1]) 190 1 hC (met_isHere ez37 l) (lw_V q2101 q2103 qs58 q161 q2104) (by decide +kernel) (by decide) (m_recv hC) rfl rfl (Nat.le_of_ble_eq_true rfl) dX8_isOwnHere_190 rfl ?_
              refine gw_if_ne 193 218 hC dX8_isOwnHere_193 (by decide) (fun c38 => ?_) (fun c38 => ?_)
              · replace h := if_f h c38
                refine gw_sub [1] rfl ?_
                exact hj29 _ h
              · replace h := if_t h c38
                refine gw_aload_n 196 1 hC dX8_isOwnHere_196 rfl ?_
                refine gw_aload_n 197 1 hC dX8_isOwnHere_197 rfl ?_
                refine mg_26 198 hC dX8_isOwnHere_198 ?_
                obtain ⟨z39, ez39, h⟩ := opt_e h
                refine gw_callV (As := [.ref (o + mO 26)]) (rest := []) (st' := [J z39.1]) 201 1 hC (met_isHere ez39 l) (lw_V q2101 q2103 qs58 q161 q2104) (by decide +kernel) (by decide) (m_recv hC) rfl rfl (Nat.le_of_ble_eq_true rfl) dX8_isOwnHere_201 rfl ?_
                refine gw_if_ne 204 218 hC dX8_isOwnHere_204 (by decide) (fun c40 => ?_) (fun c40 => ?_)
                · replace h := if_f h c40
                  refine gw_sub [1] rfl ?_
                  exact hj29 _ h
                · replace h := if_t h c40
                  refine gw_aload_n 207 1 hC dX8_isOwnHere_207 rfl ?_
                  refine gw_aload_n 208 1 hC dX8_isOwnHere_208 rfl ?_
                  refine mg_27 209 hC dX8_isOwnHere_209 ?_
                  obtain ⟨z41, ez41, h⟩ := opt_e h
                  refine gw_callV (As := [.ref (o + mO 27)]) (rest := []) (st' := [J z41.1]) 212 1 hC (met_isHere ez41 l) (lw_V q2101 q2103 qs58 q161 q2104) (by decide +kernel) (by decide) (m_recv hC) rfl rfl (Nat.le_of_ble_eq_true rfl) dX8_isOwnHere_212 rfl ?_
                  refine gw_if_eq 215 222 hC dX8_isOwnHere_215 (by decide) (fun c42 => ?_) (fun c42 => ?_)
                  · replace h := if_t h c42
                    refine gw_iconst 222 hC dX8_isOwnHere_222 ?_
                    refine gw_sub [1] rfl ?_
                    exact hj27 _ _ h
                  · replace h := if_f h c42
                    refine gw_sub [1] rfl ?_
                    exact hj29 _ h
    obtain ⟨j45, ej45, h⟩ := bnd_e h
    have hj45 : ∀ (s44 : MS), j45 s44 = some res → GW p l e (rmd 3) s m args below meth c 2 (mAd o) (MRp D o) (MK D) 1 res s44 142 [(0, .ref o)] [] := by
      clear h
      intro s44 h
      subst ej45
      refine gw_iconst 142 hC dX8_isOwnHere_142 ?_
      refine gw_goto 143 147 hC dX8_isOwnHere_143 (by decide) ?_
      refine gw_sub [0] rfl ?_
      exact hj43 _ _ h
    refine gw_if_ne 73 142 hC dX8_isOwnHere_73 (by decide) (fun c46 => ?_) (fun c46 => ?_)
    · replace h := if_f h c46
      refine gw_sub [1] rfl ?_
      exact hj45 _ h
    · replace h := if_t h c46
      refine gw_aload_n 76 1 hC dX8_isOwnHere_76 rfl ?_
      refine gw_aload_n 77 1 hC dX8_isOwnHere_77 rfl ?_
      refine mg_16 78 hC dX8_isOwnHere_78 ?_
      obtain ⟨z47, ez47, h⟩ := opt_e h
      refine gw_callV (As := [.ref (o + mO 16)]) (rest := []) (st' := [J z47.1]) 81 1 hC (met_isHere ez47 l) (lw_V q2101 q2103 qs58 q161 q2104) (by decide +kernel) (by decide) (m_recv hC) rfl rfl (Nat.le_of_ble_eq_true rfl) dX8_isOwnHere_81 rfl ?_
      refine gw_if_ne 84 142 hC dX8_isOwnHere_84 (by decide) (fun c48 => ?_) (fun c48 => ?_)
      · replace h := if_f h c48
        refine gw_sub [1] rfl ?_
        exact hj45 _ h
      · replace h := if_t h c48
        refine gw_aload_n 87 1 hC dX8_isOwnHere_87 rfl ?_
        refine gw_aload_n 88 1 hC dX8_isOwnHere_88 rfl ?_
        refine mg_17 89 hC dX8_isOwnHere_89 ?_
        obtain ⟨z49, ez49, h⟩ := opt_e h
        refine gw_callV (As := [.ref (o + mO 17)]) (rest := []) (st' := [J z49.1]) 92 1 hC (met_isHere ez49 l) (lw_V q2101 q2103 qs58 q161 q2104) (by decide +kernel) (by decide) (m_recv hC) rfl rfl (Nat.le_of_ble_eq_true rfl) dX8_isOwnHere_92 rfl ?_
        refine gw_if_ne 95 142 hC dX8_isOwnHere_95 (by decide) (fun c50 => ?_) (fun c50 => ?_)
        · replace h := if_f h c50
          refine gw_sub [1] rfl ?_
          exact hj45 _ h
        · replace h := if_t h c50
          refine gw_aload_n 98 1 hC dX8_isOwnHere_98 rfl ?_
          refine gw_aload_n 99 1 hC dX8_isOwnHere_99 rfl ?_
          refine mg_18 100 hC dX8_isOwnHere_100 ?_
          obtain ⟨z51, ez51, h⟩ := opt_e h
          refine gw_callV (As := [.ref (o + mO 18)]) (rest := []) (st' := [J z51.1]) 103 1 hC (met_isHere ez51 l) (lw_V q2101 q2103 qs58 q161 q2104) (by decide +kernel) (by decide) (m_recv hC) rfl rfl (Nat.le_of_ble_eq_true rfl) dX8_isOwnHere_103 rfl ?_
          refine gw_if_ne 106 142 hC dX8_isOwnHere_106 (by decide) (fun c52 => ?_) (fun c52 => ?_)
          · replace h := if_f h c52
            refine gw_sub [1] rfl ?_
            exact hj45 _ h
          · replace h := if_t h c52
            refine gw_aload_n 109 1 hC dX8_isOwnHere_109 rfl ?_
            refine gw_aload_n 110 1 hC dX8_isOwnHere_110 rfl ?_
            refine mg_19 111 hC dX8_isOwnHere_111 ?_
            obtain ⟨z53, ez53, h⟩ := opt_e h
            refine gw_callV (As := [.ref (o + mO 19)]) (rest := []) (st' := [J z53.1]) 114 1 hC (met_isHere ez53 l) (lw_V q2101 q2103 qs58 q161 q2104) (by decide +kernel) (by decide) (m_recv hC) rfl rfl (Nat.le_of_ble_eq_true rfl) dX8_isOwnHere_114 rfl ?_
            refine gw_if_ne 117 142 hC dX8_isOwnHere_117 (by decide) (fun c54 => ?_) (fun c54 => ?_)
            · replace h := if_f h c54
              refine gw_sub [1] rfl ?_
              exact hj45 _ h
            · replace h := if_t h c54
              refine gw_aload_n 120 1 hC dX8_isOwnHere_120 rfl ?_
              refine gw_aload_n 121 1 hC dX8_isOwnHere_121 rfl ?_
              refine mg_20 122 hC dX8_isOwnHere_122 ?_
              obtain ⟨z55, ez55, h⟩ := opt_e h
              refine gw_callV (As := [.ref (o + mO 20)]) (rest := []) (st' := [J z55.1]) 125 1 hC (met_isHere ez55 l) (lw_V q2101 q2103 qs58 q161 q2104) (by decide +kernel) (by decide) (m_recv hC) rfl rfl (Nat.le_of_ble_eq_true rfl) dX8_isOwnHere_125 rfl ?_
              refine gw_if_ne 128 142 hC dX8_isOwnHere_128 (by decide) (fun c56 => ?_) (fun c56 => ?_)
              · replace h := if_f h c56
                refine gw_sub [1] rfl ?_
                exact hj45 _ h
              · replace h := if_t h c56
                refine gw_aload_n 131 1 hC dX8_isOwnHere_131 rfl ?_
                refine gw_aload_n 132 1 hC dX8_isOwnHere_132 rfl ?_
                refine mg_21 133 hC dX8_isOwnHere_133 ?_
                obtain ⟨z57, ez57, h⟩ := opt_e h
                refine gw_callV (As := [.ref (o + mO 21)]) (rest := []) (st' := [J z57.1]) 136 1 hC (met_isHere ez57 l) (lw_V q2101 q2103 qs58 q161 q2104) (by decide +kernel) (by decide) (m_recv hC) rfl rfl (Nat.le_of_ble_eq_true rfl) dX8_isOwnHere_136 rfl ?_
                refine gw_if_eq 139 146 hC dX8_isOwnHere_139 (by decide) (fun c58 => ?_) (fun c58 => ?_)
                · replace h := if_t h c58
                  refine gw_iconst 146 hC dX8_isOwnHere_146 ?_
                  refine gw_sub [1] rfl ?_
                  exact hj43 _ _ h
                · replace h := if_f h c58
                  refine gw_sub [1] rfl ?_
                  exact hj45 _ h
  obtain ⟨j61, ej61, h⟩ := bnd_e h
  have hj61 : ∀ (s60 : MS), j61 s60 = some res → GW p l e (rmd 3) s m args below meth c 2 (mAd o) (MRp D o) (MK D) 1 res s60 66 [(0, .ref o)] [] := by
    clear h
    intro s60 h
    subst ej61
    refine gw_iconst 66 hC dX8_isOwnHere_66 ?_
    refine gw_goto 67 71 hC dX8_isOwnHere_67 (by decide) ?_
    refine gw_sub [0] rfl ?_
    exact hj59 _ _ h
  refine gw_if_ne 8 66 hC dX8_isOwnHere_8 (by decide) (fun c62 => ?_) (fun c62 => ?_)
  · replace h := if_f h c62
    refine gw_sub [0] rfl ?_
    exact hj61 _ h
  · replace h := if_t h c62
    refine gw_aload_n 11 0 hC dX8_isOwnHere_11 rfl ?_
    refine gw_aload_n 12 0 hC dX8_isOwnHere_12 rfl ?_
    refine mg_11 13 hC dX8_isOwnHere_13 ?_
    obtain ⟨z63, ez63, h⟩ := opt_e h
    refine gw_callV (As := [.ref (o + mO 11)]) (rest := []) (st' := [J z63.1]) 16 1 hC (met_isHere ez63 l) (lw_V q2101 q2103 qs58 q161 q2104) (by decide +kernel) (by decide) (m_recv hC) rfl rfl (Nat.le_of_ble_eq_true rfl) dX8_isOwnHere_16 rfl ?_
    refine gw_if_ne 19 66 hC dX8_isOwnHere_19 (by decide) (fun c64 => ?_) (fun c64 => ?_)
    · replace h := if_f h c64
      refine gw_sub [0] rfl ?_
      exact hj61 _ h
    · replace h := if_t h c64
      refine gw_aload_n 22 0 hC dX8_isOwnHere_22 rfl ?_
      refine gw_aload_n 23 0 hC dX8_isOwnHere_23 rfl ?_
      refine mg_12 24 hC dX8_isOwnHere_24 ?_
      obtain ⟨z65, ez65, h⟩ := opt_e h
      refine gw_callV (As := [.ref (o + mO 12)]) (rest := []) (st' := [J z65.1]) 27 1 hC (met_isHere ez65 l) (lw_V q2101 q2103 qs58 q161 q2104) (by decide +kernel) (by decide) (m_recv hC) rfl rfl (Nat.le_of_ble_eq_true rfl) dX8_isOwnHere_27 rfl ?_
      refine gw_if_ne 30 66 hC dX8_isOwnHere_30 (by decide) (fun c66 => ?_) (fun c66 => ?_)
      · replace h := if_f h c66
        refine gw_sub [0] rfl ?_
        exact hj61 _ h
      · replace h := if_t h c66
        refine gw_aload_n 33 0 hC dX8_isOwnHere_33 rfl ?_
        refine gw_aload_n 34 0 hC dX8_isOwnHere_34 rfl ?_
        refine mg_13 35 hC dX8_isOwnHere_35 ?_
        obtain ⟨z67, ez67, h⟩ := opt_e h
        refine gw_callV (As := [.ref (o + mO 13)]) (rest := []) (st' := [J z67.1]) 38 1 hC (met_isHere ez67 l) (lw_V q2101 q2103 qs58 q161 q2104) (by decide +kernel) (by decide) (m_recv hC) rfl rfl (Nat.le_of_ble_eq_true rfl) dX8_isOwnHere_38 rfl ?_
        refine gw_if_ne 41 66 hC dX8_isOwnHere_41 (by decide) (fun c68 => ?_) (fun c68 => ?_)
        · replace h := if_f h c68
          refine gw_sub [0] rfl ?_
          exact hj61 _ h
        · replace h := if_t h c68
          refine gw_aload_n 44 0 hC dX8_isOwnHere_44 rfl ?_
          refine gw_aload_n 45 0 hC dX8_isOwnHere_45 rfl ?_
          refine mg_14 46 hC dX8_isOwnHere_46 ?_
          obtain ⟨z69, ez69, h⟩ := opt_e h
          refine gw_callV (As := [.ref (o + mO 14)]) (rest := []) (st' := [J z69.1]) 49 1 hC (met_isHere ez69 l) (lw_V q2101 q2103 qs58 q161 q2104) (by decide +kernel) (by decide) (m_recv hC) rfl rfl (Nat.le_of_ble_eq_true rfl) dX8_isOwnHere_49 rfl ?_
          refine gw_if_ne 52 66 hC dX8_isOwnHere_52 (by decide) (fun c70 => ?_) (fun c70 => ?_)
          · replace h := if_f h c70
            refine gw_sub [0] rfl ?_
            exact hj61 _ h
          · replace h := if_t h c70
            refine gw_aload_n 55 0 hC dX8_isOwnHere_55 rfl ?_
            refine gw_aload_n 56 0 hC dX8_isOwnHere_56 rfl ?_
            refine mg_15 57 hC dX8_isOwnHere_57 ?_
            obtain ⟨z71, ez71, h⟩ := opt_e h
            refine gw_callV (As := [.ref (o + mO 15)]) (rest := []) (st' := [J z71.1]) 60 1 hC (met_isHere ez71 l) (lw_V q2101 q2103 qs58 q161 q2104) (by decide +kernel) (by decide) (m_recv hC) rfl rfl (Nat.le_of_ble_eq_true rfl) dX8_isOwnHere_60 rfl ?_
            refine gw_if_eq 63 70 hC dX8_isOwnHere_63 (by decide) (fun c72 => ?_) (fun c72 => ?_)
            · replace h := if_t h c72
              refine gw_iconst 70 hC dX8_isOwnHere_70 ?_
              refine gw_sub [0] rfl ?_
              exact hj59 _ _ h
            · replace h := if_f h c72
              refine gw_sub [0] rfl ?_
              exact hj61 _ h
/-! name()J -/
noncomputable def m_name_L58 (k145 : Int → MS → Option (Int × MS)) (k98 : MS → Option (Int × MS)) : Nat → Int → MS → Option (Int × MS)
  | 0, _, _ => none
  | n + 1, x1_13, s14 =>
    if i32 (s14 3 0) ≤ i32 (s14 2 0) then
      k145 x1_13 s14
    else
      gd (ok 1600 (s14 2 0)) <|
      Option.bind (m_isLetter (s14 0 (i32 (s14 2 0))) s14) fun z20 =>
      if i32 z20.1 = 0 then
        k145 x1_13 z20.2
      else
        if i32 ((z20.2 2 0) - (z20.2 34 0)) = i32 6 then
          k98 z20.2
        else
          gd (ok 1600 (z20.2 2 0)) <|
          bnd ((((27 * x1_13) + (i32 (z20.2 0 (i32 (z20.2 2 0))))) - 97) + 1) fun x1_24 =>
          bnd (up z20.2 2 0 ((z20.2 2 0) + 1)) fun s25 =>
          m_name_L58 k145 k98 n x1_24 s25
noncomputable def m_name (s0 : MS) : Option (Int × MS) :=
  if i32 (s0 5 0) = 0 then
    Option.bind (m_look s0) fun z2 =>
    Option.bind (m_isLetter z2.1 z2.2) fun z3 =>
    bnd (fun (s4 : MS) =>
        Option.bind (m_fail 1 (s4 2 0) s4) fun z5 =>
        some (0, z5.2)) fun j6 =>
    if i32 z3.1 = 0 then
      j6 z3.2
    else
      if i32 (z3.2 2 0) = i32 (z3.2 4 0) then
        j6 z3.2
      else
        Option.bind (m_isOwnHere z3.2) fun z9 =>
        if i32 z9.1 = 0 then
          bnd (up z9.2 34 0 (z9.2 2 0)) fun s11 =>
          bnd 0 fun x1_12 =>
          m_name_L58
            (fun (x1_26 : Int) (s27 : MS) =>
              bnd (up s27 4 0 (s27 2 0)) fun s28 =>
              some (x1_26, s28))
            (fun (s29 : MS) =>
              Option.bind (m_fail 1 (s29 2 0) s29) fun z30 =>
              some (0, z30.2))
            FU x1_12 s11
        else
          j6 z9.2
  else
    some (0, s0)
theorem wm_name_L58 {p : Program} {l : Launch} {e : Env} {s : State} {m : MethodId} {args : Array Value} {below : List Frame} {meth : Method} {c : Code} {D : MD} {o : Nat} {res : Int × MS} {k145 : Int → MS → Option (Int × MS)} {k98 : MS → Option (Int × MS)} (hC : GC p s m args meth c cX8_name RX8 3 (some .long) (MK D)) (hk145 : ∀ (x1_15 : Int) (s16 : MS), k145 x1_15 s16 = some res → GW p l e (rmd 4) s m args below meth c 3 (mAd o) (MRp D o) (MK D) 2 res s16 145 [(0, .ref o), (1, Lg x1_15)] []) (hk98 : ∀ (s17 : MS), k98 s17 = some res → GW p l e (rmd 4) s m args below meth c 3 (mAd o) (MRp D o) (MK D) 2 res s17 98 [(0, .ref o)] []) : ∀ (n : Nat) (x1_13 : Int) (s14 : MS), m_name_L58 k145 k98 n x1_13 s14 = some res → GW p l e (rmd 4) s m args below meth c 3 (mAd o) (MRp D o) (MK D) 2 res s14 58 [(0, .ref o), (1, Lg x1_13)] [] := by
  intro n
  induction n with
  | zero =>
    intro x1_13 s14 h
    cases h
  | succ n ih =>
    intro x1_13 s14 h
    rw [m_name_L58] at h
    refine gw_aload_n 58 0 hC dX8_name_58 rfl ?_
    refine mg_2 59 hC dX8_name_59 ?_
    refine gw_aload_n 62 0 hC dX8_name_62 rfl ?_
    refine mg_3 63 hC dX8_name_63 ?_
    refine gw_icmp_ge 66 145 hC dX8_name_66 (by decide) (fun c18 => ?_) (fun c18 => ?_)
    · replace h := if_t h c18
      refine gw_sub [0, 1] rfl ?_
      exact hk145 _ _ h
    · replace h := if_f h c18
      refine gw_aload_n 69 0 hC dX8_name_69 rfl ?_
      refine mg_0 70 hC dX8_name_70 ?_
      refine gw_aload_n 73 0 hC dX8_name_73 rfl ?_
      refine mg_2 74 hC dX8_name_74 ?_
      obtain ⟨g19, h⟩ := gd_e h
      refine m_iald 77 0 hC (by decide) rfl g19 dX8_name_77 ?_
      obtain ⟨z20, ez20, h⟩ := opt_e h
      refine gw_callS (As := [J (s14 0 (i32 (s14 2 0)))]) (rest := []) (st' := [J z20.1]) 78 1 hC (met_isLetter ez20 l) (lw_S q2109 q2110 q161 q2111) (by decide +kernel) (by decide) rfl rfl (Nat.le_of_ble_eq_true rfl) dX8_name_78 rfl ?_
      refine gw_if_eq 81 145 hC dX8_name_81 (by decide) (fun c21 => ?_) (fun c21 => ?_)
      · replace h := if_t h c21
        refine gw_sub [0, 1] rfl ?_
        exact hk145 _ _ h
      · replace h := if_f h c21
        refine gw_aload_n 84 0 hC dX8_name_84 rfl ?_
        refine mg_2 85 hC dX8_name_85 ?_
        refine gw_aload_n 88 0 hC dX8_name_88 rfl ?_
        refine mg_34 89 hC dX8_name_89 ?_
        refine gw_isub 92 hC dX8_name_92 ?_
        refine gw_bipush 93 hC dX8_name_93 (by decide) ?_
        refine gw_icmp_ne 95 109 hC dX8_name_95 (by decide) (fun c22 => ?_) (fun c22 => ?_)
        · replace h := if_f h c22
          refine gw_ldc2 (v := 27) 109 hC dX8_name_109 q2154 (by decide) ?_
          refine gw_lload_n 112 1 hC dX8_name_112 rfl ?_
          refine gw_lmul 113 hC dX8_name_113 ?_
          refine gw_aload_n 114 0 hC dX8_name_114 rfl ?_
          refine mg_0 115 hC dX8_name_115 ?_
          refine gw_aload_n 118 0 hC dX8_name_118 rfl ?_
          refine mg_2 119 hC dX8_name_119 ?_
          obtain ⟨g23, h⟩ := gd_e h
          refine m_iald 122 0 hC (by decide) rfl g23 dX8_name_122 ?_
          refine gw_i2l 123 hC dX8_name_123 ?_
          refine gw_ladd 124 hC dX8_name_124 ?_
          refine gw_ldc2 (v := 97) 125 hC dX8_name_125 q2155 (by decide) ?_
          refine gw_lsub 128 hC dX8_name_128 ?_
          refine gw_lconst (v := 1) 129 hC dX8_name_129 (by decide) ?_
          refine gw_ladd 130 hC dX8_name_130 ?_
          obtain ⟨x1_24, ex1_24, h⟩ := bnd_e h
          refine gw_lstore_n 131 [(1, Lg x1_24), (0, .ref o)] hC dX8_name_131 (by decide) ex1_24 rfl ?_
          refine gw_aload_n 132 1 hC dX8_name_132 rfl ?_
          refine gw_dup 133 hC dX8_name_133 rfl ?_
          refine mg_2 134 hC dX8_name_134 ?_
          refine gw_iconst 137 hC dX8_name_137 ?_
          refine gw_iadd 138 hC dX8_name_138 ?_
          obtain ⟨s25, es25, h⟩ := bnd_e h
          refine mp_2 139 hC (MIn_self o) es25 dX8_name_139 ?_
          refine gw_goto 142 58 hC dX8_name_142 (by decide) ?_
          refine gw_sub [1, 0] rfl ?_
          exact ih _ _ h
        · replace h := if_t h c22
          refine gw_sub [0] rfl ?_
          exact hk98 _ h
theorem met_name {D : MD} {o : Nat} {s0 : MS} {res : Int × MS} (h : m_name s0 = some res) (l : Launch) : GMet l yX8_name cX8_name 3 (some .long) 4 (MRp D o) (MK D) (mAd o) [.ref o] s0 2 res := by
  refine GMet.of [(0, .ref o)] (by decide) (MK_moved D) (Nat.le_of_ble_eq_true rfl) rfl ?_
  intro p e s m args below meth c hC
  have hC : GC p s m args meth c cX8_name RX8 3 (some .long) (MK D) := hC
  unfold m_name at h
  refine gw_aload_n 0 0 hC dX8_name_0 rfl ?_
  refine mg_5 1 hC dX8_name_1 ?_
  refine gw_if_eq 4 9 hC dX8_name_4 (by decide) (fun c1 => ?_) (fun c1 => ?_)
  · replace h := if_t h c1
    refine gw_aload_n 9 0 hC dX8_name_9 rfl ?_
    obtain ⟨z2, ez2, h⟩ := opt_e h
    refine gw_callV (As := []) (rest := []) (st' := [J z2.1]) 10 0 hC (met_look ez2 l) (lw_V q2105 q2107 qs59 q161 q2108) (by decide +kernel) (by decide) (m_recv hC) rfl rfl (Nat.le_of_ble_eq_true rfl) dX8_name_10 rfl ?_
    obtain ⟨z3, ez3, h⟩ := opt_e h
    refine gw_callS (As := [J z2.1]) (rest := []) (st' := [J z3.1]) 13 1 hC (met_isLetter ez3 l) (lw_S q2109 q2110 q161 q2111) (by decide +kernel) (by decide) rfl rfl (Nat.le_of_ble_eq_true rfl) dX8_name_13 rfl ?_
    obtain ⟨j6, ej6, h⟩ := bnd_e h
    have hj6 : ∀ (s4 : MS), j6 s4 = some res → GW p l e (rmd 4) s m args below meth c 3 (mAd o) (MRp D o) (MK D) 2 res s4 37 [(0, .ref o)] [] := by
      clear h
      intro s4 h
      subst ej6
      refine gw_aload_n 37 0 hC dX8_name_37 rfl ?_
      refine gw_iconst 38 hC dX8_name_38 ?_
      refine gw_aload_n 39 0 hC dX8_name_39 rfl ?_
      refine mg_2 40 hC dX8_name_40 ?_
      obtain ⟨z5, ez5, h⟩ := opt_e h
      refine gw_callV (As := [J 1, J (s4 2 0)]) (rest := []) (st' := []) 43 2 hC (met_fail ez5 l) (lw_V q2112 q2114 qs60 q161 q2115) (by decide +kernel) (by decide) (m_recv hC) rfl rfl (Nat.le_of_ble_eq_true rfl) dX8_name_43 rfl ?_
      refine gw_lconst (v := 0) 46 hC dX8_name_46 (by decide) ?_
      exact gw_lret 47 hC dX8_name_47 h
    refine gw_if_eq 16 37 hC dX8_name_16 (by decide) (fun c7 => ?_) (fun c7 => ?_)
    · replace h := if_t h c7
      refine gw_sub [0] rfl ?_
      exact hj6 _ h
    · replace h := if_f h c7
      refine gw_aload_n 19 0 hC dX8_name_19 rfl ?_
      refine mg_2 20 hC dX8_name_20 ?_
      refine gw_aload_n 23 0 hC dX8_name_23 rfl ?_
      refine mg_4 24 hC dX8_name_24 ?_
      refine gw_icmp_eq 27 37 hC dX8_name_27 (by decide) (fun c8 => ?_) (fun c8 => ?_)
      · replace h := if_t h c8
        refine gw_sub [0] rfl ?_
        exact hj6 _ h
      · replace h := if_f h c8
        refine gw_aload_n 30 0 hC dX8_name_30 rfl ?_
        obtain ⟨z9, ez9, h⟩ := opt_e h
        refine gw_callV (As := []) (rest := []) (st' := [J z9.1]) 31 0 hC (met_isOwnHere ez9 l) (lw_V q2150 q2152 qs68 q161 q2153) (by decide +kernel) (by decide) (m_recv hC) rfl rfl (Nat.le_of_ble_eq_true rfl) dX8_name_31 rfl ?_
        refine gw_if_eq 34 48 hC dX8_name_34 (by decide) (fun c10 => ?_) (fun c10 => ?_)
        · replace h := if_t h c10
          refine gw_aload_n 48 0 hC dX8_name_48 rfl ?_
          refine gw_aload_n 49 0 hC dX8_name_49 rfl ?_
          refine mg_2 50 hC dX8_name_50 ?_
          obtain ⟨s11, es11, h⟩ := bnd_e h
          refine mp_34 53 hC (MIn_self o) es11 dX8_name_53 ?_
          refine gw_lconst (v := 0) 56 hC dX8_name_56 (by decide) ?_
          obtain ⟨x1_12, ex1_12, h⟩ := bnd_e h
          refine gw_lstore_n 57 [(1, Lg x1_12), (0, .ref o)] hC dX8_name_57 (by decide) ex1_12 rfl ?_
          refine gw_sub [1, 0] rfl ?_
          refine wm_name_L58 hC (fun x1_26 s27 h => ?_) (fun s29 h => ?_) FU _ _ h
          · refine gw_aload_n 145 0 hC dX8_name_145 rfl ?_
            refine gw_aload_n 146 0 hC dX8_name_146 rfl ?_
            refine mg_2 147 hC dX8_name_147 ?_
            obtain ⟨s28, es28, h⟩ := bnd_e h
            refine mp_4 150 hC (MIn_self o) es28 dX8_name_150 ?_
            refine gw_lload_n 153 1 hC dX8_name_153 rfl ?_
            exact gw_lret 154 hC dX8_name_154 h
          · refine gw_aload_n 98 0 hC dX8_name_98 rfl ?_
            refine gw_iconst 99 hC dX8_name_99 ?_
            refine gw_aload_n 100 0 hC dX8_name_100 rfl ?_
            refine mg_2 101 hC dX8_name_101 ?_
            obtain ⟨z30, ez30, h⟩ := opt_e h
            refine gw_callV (As := [J 1, J (s29 2 0)]) (rest := []) (st' := []) 104 2 hC (met_fail ez30 l) (lw_V q2112 q2114 qs60 q161 q2115) (by decide +kernel) (by decide) (m_recv hC) rfl rfl (Nat.le_of_ble_eq_true rfl) dX8_name_104 rfl ?_
            refine gw_lconst (v := 0) 107 hC dX8_name_107 (by decide) ?_
            exact gw_lret 108 hC dX8_name_108 h
        · replace h := if_f h c10
          refine gw_sub [0] rfl ?_
          exact hj6 _ h
  · replace h := if_f h c1
    refine gw_lconst (v := 0) 7 hC dX8_name_7 (by decide) ?_
    exact gw_lret 8 hC dX8_name_8 h
/-! newName()J -/
noncomputable def m_newName_L15 (k65 : Int → Int → MS → Option (Int × MS)) : Nat → Int → Int → Int → MS → Option (Int × MS)
  | 0, _, _, _, _ => none
  | n + 1, x1_11, x3_12, x4_13, s14 =>
    gd (ok 4 x3_12) <|
    if i32 (s14 36 (i32 x3_12)) ≤ i32 x4_13 then
      k65 x1_11 x3_12 s14
    else
      bnd (fun (x1_20 : Int) (x3_21 : Int) (x4_22 : Int) (s23 : MS) =>
          bnd (x4_22 + 1) fun x4_24 =>
          m_newName_L15 k65 n x1_20 x3_21 x4_24 s23) fun j25 =>
      if i32 (s14 5 0) = 0 then
        gd (ok 32 ((8 * x3_12) + x4_13)) <|
        if i64 (s14 37 (i32 ((8 * x3_12) + x4_13))) = i64 x1_11 then
          Option.bind (m_fail 3 (s14 34 0) s14) fun z29 =>
          j25 x1_11 x3_12 x4_13 z29.2
        else
          j25 x1_11 x3_12 x4_13 s14
      else
        j25 x1_11 x3_12 x4_13 s14
noncomputable def m_newName_L7 (k71 : Int → MS → Option (Int × MS)) : Nat → Int → Int → MS → Option (Int × MS)
  | 0, _, _, _ => none
  | n + 1, x1_4, x3_5, s6 =>
    if i32 2 ≤ i32 x3_5 then
      k71 x1_4 s6
    else
      bnd 0 fun x4_10 =>
      m_newName_L15
        (fun (x1_30 : Int) (x3_31 : Int) (s32 : MS) =>
          bnd (x3_31 + 1) fun x3_33 =>
          m_newName_L7 k71 n x1_30 x3_33 s32)
        FU x1_4 x3_5 x4_10 s6
noncomputable def m_newName (s0 : MS) : Option (Int × MS) :=
  Option.bind (m_name s0) fun z1 =>
  bnd z1.1 fun x1_2 =>
  bnd 0 fun x3_3 =>
  m_newName_L7
    (fun (x1_34 : Int) (s35 : MS) =>
      some (x1_34, s35))
    FU x1_2 x3_3 z1.2
theorem wm_newName_L15 {p : Program} {l : Launch} {e : Env} {s : State} {m : MethodId} {args : Array Value} {below : List Frame} {meth : Method} {c : Code} {D : MD} {o : Nat} {res : Int × MS} {k65 : Int → Int → MS → Option (Int × MS)} (hC : GC p s m args meth c cX8_newName RX8 5 (some .long) (MK D)) (hk65 : ∀ (x1_15 : Int) (x3_16 : Int) (s17 : MS), k65 x1_15 x3_16 s17 = some res → GW p l e (rmd 5) s m args below meth c 5 (mAd o) (MRp D o) (MK D) 2 res s17 65 [(0, .ref o), (1, Lg x1_15), (3, J x3_16)] []) : ∀ (n : Nat) (x1_11 : Int) (x3_12 : Int) (x4_13 : Int) (s14 : MS), m_newName_L15 k65 n x1_11 x3_12 x4_13 s14 = some res → GW p l e (rmd 5) s m args below meth c 5 (mAd o) (MRp D o) (MK D) 2 res s14 15 [(0, .ref o), (1, Lg x1_11), (3, J x3_12), (4, J x4_13)] [] := by
  intro n
  induction n with
  | zero =>
    intro x1_11 x3_12 x4_13 s14 h
    cases h
  | succ n ih =>
    intro x1_11 x3_12 x4_13 s14 h
    rw [m_newName_L15] at h
    refine gw_iload 15 3 hC dX8_newName_15 rfl ?_
    refine gw_aload_n 17 0 hC dX8_newName_17 rfl ?_
    refine mg_36 18 hC dX8_newName_18 ?_
    refine gw_iload_n 21 2 hC dX8_newName_21 rfl ?_
    obtain ⟨g18, h⟩ := gd_e h
    refine m_iald 22 36 hC (by decide) rfl g18 dX8_newName_22 ?_
    refine gw_icmp_ge 23 65 hC dX8_newName_23 (by decide) (fun c19 => ?_) (fun c19 => ?_)
    · replace h := if_t h c19
      refine gw_sub [0, 1, 2] rfl ?_
      exact hk65 _ _ _ h
    · replace h := if_f h c19
      refine gw_aload_n 26 0 hC dX8_newName_26 rfl ?_
      refine mg_5 27 hC dX8_newName_27 ?_
      obtain ⟨j25, ej25, h⟩ := bnd_e h
      have hj25 : ∀ (x1_20 : Int) (x3_21 : Int) (x4_22 : Int) (s23 : MS), j25 x1_20 x3_21 x4_22 s23 = some res → GW p l e (rmd 5) s m args below meth c 5 (mAd o) (MRp D o) (MK D) 2 res s23 59 [(0, .ref o), (1, Lg x1_20), (3, J x3_21), (4, J x4_22)] [] := by
        clear h
        intro x1_20 x3_21 x4_22 s23 h
        subst ej25
        obtain ⟨x4_24, ex4_24, h⟩ := bnd_e h
        refine gw_iinc 59 3 [(4, J x4_24), (0, .ref o), (1, Lg x1_20), (3, J x3_21)] hC dX8_newName_59 rfl ex4_24 (by decide) rfl ?_
        refine gw_goto 62 15 hC dX8_newName_62 (by decide) ?_
        refine gw_sub [1, 2, 3, 0] rfl ?_
        exact ih _ _ _ _ h
      refine gw_if_ne 30 59 hC dX8_newName_30 (by decide) (fun c26 => ?_) (fun c26 => ?_)
      · replace h := if_f h c26
        refine gw_sub [0, 1, 2, 3] rfl ?_
        exact hj25 _ _ _ _ h
      · replace h := if_t h c26
        refine gw_aload_n 33 0 hC dX8_newName_33 rfl ?_
        refine mg_37 34 hC dX8_newName_34 ?_
        refine gw_bipush 37 hC dX8_newName_37 (by decide) ?_
        refine gw_iload_n 39 2 hC dX8_newName_39 rfl ?_
        refine gw_imul 40 hC dX8_newName_40 ?_
        refine gw_iload 41 3 hC dX8_newName_41 rfl ?_
        refine gw_iadd 43 hC dX8_newName_43 ?_
        obtain ⟨g27, h⟩ := gd_e h
        refine m_lald 44 37 hC (by decide) rfl g27 dX8_newName_44 ?_
        refine gw_lload_n 45 1 hC dX8_newName_45 rfl ?_
        refine gw_lcmp_ne 46 59 hC dX8_newName_46 dX8_newName_47 (by decide) (fun c28 => ?_) (fun c28 => ?_)
        · replace h := if_f h c28
          refine gw_sub [0, 1, 2, 3] rfl ?_
          exact hj25 _ _ _ _ h
        · replace h := if_t h c28
          refine gw_aload_n 50 0 hC dX8_newName_50 rfl ?_
          refine gw_iconst 51 hC dX8_newName_51 ?_
          refine gw_aload_n 52 0 hC dX8_newName_52 rfl ?_
          refine mg_34 53 hC dX8_newName_53 ?_
          obtain ⟨z29, ez29, h⟩ := opt_e h
          refine gw_callV (As := [J 3, J (s14 34 0)]) (rest := []) (st' := []) 56 2 hC (met_fail ez29 l) (lw_V q2112 q2114 qs60 q161 q2115) (by decide +kernel) (by decide) (m_recv hC) rfl rfl (Nat.le_of_ble_eq_true rfl) dX8_newName_56 rfl ?_
          refine gw_sub [0, 1, 2, 3] rfl ?_
          exact hj25 _ _ _ _ h
theorem wm_newName_L7 {p : Program} {l : Launch} {e : Env} {s : State} {m : MethodId} {args : Array Value} {below : List Frame} {meth : Method} {c : Code} {D : MD} {o : Nat} {res : Int × MS} {k71 : Int → MS → Option (Int × MS)} (hC : GC p s m args meth c cX8_newName RX8 5 (some .long) (MK D)) (hk71 : ∀ (x1_7 : Int) (s8 : MS), k71 x1_7 s8 = some res → GW p l e (rmd 5) s m args below meth c 5 (mAd o) (MRp D o) (MK D) 2 res s8 71 [(1, Lg x1_7)] []) : ∀ (n : Nat) (x1_4 : Int) (x3_5 : Int) (s6 : MS), m_newName_L7 k71 n x1_4 x3_5 s6 = some res → GW p l e (rmd 5) s m args below meth c 5 (mAd o) (MRp D o) (MK D) 2 res s6 7 [(0, .ref o), (1, Lg x1_4), (3, J x3_5)] [] := by
  intro n
  induction n with
  | zero =>
    intro x1_4 x3_5 s6 h
    cases h
  | succ n ih =>
    intro x1_4 x3_5 s6 h
    rw [m_newName_L7] at h
    refine gw_iload_n 7 2 hC dX8_newName_7 rfl ?_
    refine gw_iconst 8 hC dX8_newName_8 ?_
    refine gw_icmp_ge 9 71 hC dX8_newName_9 (by decide) (fun c9 => ?_) (fun c9 => ?_)
    · replace h := if_t h c9
      refine gw_sub [1] rfl ?_
      exact hk71 _ _ h
    · replace h := if_f h c9
      refine gw_iconst 12 hC dX8_newName_12 ?_
      obtain ⟨x4_10, ex4_10, h⟩ := bnd_e h
      refine gw_istore 13 [(4, J x4_10), (0, .ref o), (1, Lg x1_4), (3, J x3_5)] hC dX8_newName_13 (by decide) ex4_10 rfl ?_
      refine gw_sub [1, 2, 3, 0] rfl ?_
      refine wm_newName_L15 hC (fun x1_30 x3_31 s32 h => ?_) FU _ _ _ _ h
      · obtain ⟨x3_33, ex3_33, h⟩ := bnd_e h
        refine gw_iinc 65 2 [(3, J x3_33), (0, .ref o), (1, Lg x1_30)] hC dX8_newName_65 rfl ex3_33 (by decide) rfl ?_
        refine gw_goto 68 7 hC dX8_newName_68 (by decide) ?_
        refine gw_sub [1, 2, 0] rfl ?_
        exact ih _ _ _ h
theorem met_newName {D : MD} {o : Nat} {s0 : MS} {res : Int × MS} (h : m_newName s0 = some res) (l : Launch) : GMet l yX8_newName cX8_newName 5 (some .long) 5 (MRp D o) (MK D) (mAd o) [.ref o] s0 2 res := by
  refine GMet.of [(0, .ref o)] (by decide) (MK_moved D) (Nat.le_of_ble_eq_true rfl) rfl ?_
  intro p e s m args below meth c hC
  have hC : GC p s m args meth c cX8_newName RX8 5 (some .long) (MK D) := hC
  unfold m_newName at h
  refine gw_aload_n 0 0 hC dX8_newName_0 rfl ?_
  obtain ⟨z1, ez1, h⟩ := opt_e h
  refine gw_callV (As := []) (rest := []) (st' := [Lg z1.1]) 1 0 hC (met_name ez1 l) (lw_V q2146 q2148 qs67 q161 q2149) (by decide +kernel) (by decide) (m_recv hC) rfl rfl (Nat.le_of_ble_eq_true rfl) dX8_newName_1 rfl ?_
  obtain ⟨x1_2, ex1_2, h⟩ := bnd_e h
  refine gw_lstore_n 4 [(1, Lg x1_2), (0, .ref o)] hC dX8_newName_4 (by decide) ex1_2 rfl ?_
  refine gw_iconst 5 hC dX8_newName_5 ?_
  obtain ⟨x3_3, ex3_3, h⟩ := bnd_e h
  refine gw_istore_n 6 [(3, J x3_3), (1, Lg x1_2), (0, .ref o)] hC dX8_newName_6 (by decide) ex3_3 rfl ?_
  refine gw_sub [2, 1, 0] rfl ?_
  refine wm_newName_L7 hC (fun x1_34 s35 h => ?_) FU _ _ _ h
  · refine gw_lload_n 71 0 hC dX8_newName_71 rfl ?_
    exact gw_lret 72 hC dX8_newName_72 h
/-! sayingTold(I)V -/
noncomputable def m_sayingTold (a1 : Int) (s0 : MS) : Option (Int × MS) :=
  bnd (fun (s2 : MS) =>
      if i32 (s2 5 0) = 0 then
        Option.bind (m_newName s2) fun z4 =>
        bnd z4.1 fun x2_5 =>
        Option.bind (m_asks 12 z4.2) fun z6 =>
        Option.bind (m_number 0 9 z6.2) fun z7 =>
        bnd z7.1 fun x4_8 =>
        Option.bind (m_number 0 9 z7.2) fun z9 =>
        bnd z9.1 fun x5_10 =>
        Option.bind (m_asks 13 z9.2) fun z11 =>
        Option.bind (m_number 0 9 z11.2) fun z12 =>
        bnd z12.1 fun x6_13 =>
        if i32 (z12.2 5 0) = 0 then
          gd (ok 4 0) <|
          gd (ok 32 (z12.2 36 (i32 0))) <|
          bnd (up z12.2 37 (i32 (z12.2 36 (i32 0))) x2_5) fun s17 =>
          gd (ok 4 0) <|
          gd (ok 18 (3 * (s17 36 (i32 0)))) <|
          bnd (up s17 38 (i32 (3 * (s17 36 (i32 0)))) x4_8) fun s20 =>
          gd (ok 4 0) <|
          gd (ok 18 ((3 * (s20 36 (i32 0))) + 1)) <|
          bnd (up s20 38 (i32 ((3 * (s20 36 (i32 0))) + 1)) x5_10) fun s23 =>
          gd (ok 4 0) <|
          gd (ok 18 ((3 * (s23 36 (i32 0))) + 2)) <|
          bnd (up s23 38 (i32 ((3 * (s23 36 (i32 0))) + 2)) x6_13) fun s26 =>
          gd (ok 4 0) <|
          gd (ok 4 0) <|
          bnd (up s26 36 (i32 0) ((s26 36 (i32 0)) + 1)) fun s29 =>
          some (0, s29)
        else
          some (0, z12.2)
      else
        some (0, s2)) fun j30 =>
  if i32 (s0 5 0) = 0 then
    gd (ok 4 0) <|
    if i32 (s0 36 (i32 0)) = i32 6 then
      Option.bind (m_fail 5 a1 s0) fun z34 =>
      j30 z34.2
    else
      j30 s0
  else
    j30 s0
theorem met_sayingTold {D : MD} {o : Nat} {a1 : Int} {s0 : MS} {res : Int × MS} (h : m_sayingTold a1 s0 = some res) (l : Launch) : GMet l yX8_sayingTold cX8_sayingTold 7 none 6 (MRp D o) (MK D) (mAd o) [.ref o, J a1] s0 0 res := by
  refine GMet.of [(0, .ref o), (1, J a1)] (by decide) (MK_moved D) (Nat.le_of_ble_eq_true rfl) rfl ?_
  intro p e s m args below meth c hC
  have hC : GC p s m args meth c cX8_sayingTold RX8 7 none (MK D) := hC
  unfold m_sayingTold at h
  refine gw_aload_n 0 0 hC dX8_sayingTold_0 rfl ?_
  refine mg_5 1 hC dX8_sayingTold_1 ?_
  obtain ⟨j30, ej30, h⟩ := bnd_e h
  have hj30 : ∀ (s2 : MS), j30 s2 = some res → GW p l e (rmd 6) s m args below meth c 7 (mAd o) (MRp D o) (MK D) 0 res s2 24 [(0, .ref o)] [] := by
    clear h
    intro s2 h
    subst ej30
    refine gw_aload_n 24 0 hC dX8_sayingTold_24 rfl ?_
    refine mg_5 25 hC dX8_sayingTold_25 ?_
    refine gw_if_eq 28 32 hC dX8_sayingTold_28 (by decide) (fun c3 => ?_) (fun c3 => ?_)
    · replace h := if_t h c3
      refine gw_aload_n 32 0 hC dX8_sayingTold_32 rfl ?_
      obtain ⟨z4, ez4, h⟩ := opt_e h
      refine gw_callV (As := []) (rest := []) (st' := [Lg z4.1]) 33 0 hC (met_newName ez4 l) (lw_V q2142 q2144 qs66 q161 q2145) (by decide +kernel) (by decide) (m_recv hC) rfl rfl (Nat.le_of_ble_eq_true rfl) dX8_sayingTold_33 rfl ?_
      obtain ⟨x2_5, ex2_5, h⟩ := bnd_e h
      refine gw_lstore_n 36 [(2, Lg x2_5), (0, .ref o)] hC dX8_sayingTold_36 (by decide) ex2_5 rfl ?_
      refine gw_aload_n 37 1 hC dX8_sayingTold_37 rfl ?_
      refine gw_aload_n 38 1 hC dX8_sayingTold_38 rfl ?_
      refine mg_12 39 hC dX8_sayingTold_39 ?_
      obtain ⟨z6, ez6, h⟩ := opt_e h
      refine gw_callV (As := [.ref (o + mO 12)]) (rest := []) (st' := []) 42 1 hC (met_asks ez6 l) (lw_V q2093 q2095 qs56 q161 q2096) (by decide +kernel) (by decide) (m_recv hC) rfl rfl (Nat.le_of_ble_eq_true rfl) dX8_sayingTold_42 rfl ?_
      refine gw_aload_n 45 1 hC dX8_sayingTold_45 rfl ?_
      refine gw_iconst 46 hC dX8_sayingTold_46 ?_
      refine gw_bipush 47 hC dX8_sayingTold_47 (by decide) ?_
      obtain ⟨z7, ez7, h⟩ := opt_e h
      refine gw_callV (As := [J 0, J 9]) (rest := []) (st' := [J z7.1]) 49 2 hC (met_number ez7 l) (lw_V q2116 q2118 qs61 q161 q2119) (by decide +kernel) (by decide) (m_recv hC) rfl rfl (Nat.le_of_ble_eq_true rfl) dX8_sayingTold_49 rfl ?_
      obtain ⟨x4_8, ex4_8, h⟩ := bnd_e h
      refine gw_istore 52 [(4, J x4_8), (2, Lg x2_5), (0, .ref o)] hC dX8_sayingTold_52 (by decide) ex4_8 rfl ?_
      refine gw_aload_n 54 2 hC dX8_sayingTold_54 rfl ?_
      refine gw_iconst 55 hC dX8_sayingTold_55 ?_
      refine gw_bipush 56 hC dX8_sayingTold_56 (by decide) ?_
      obtain ⟨z9, ez9, h⟩ := opt_e h
      refine gw_callV (As := [J 0, J 9]) (rest := []) (st' := [J z9.1]) 58 2 hC (met_number ez9 l) (lw_V q2116 q2118 qs61 q161 q2119) (by decide +kernel) (by decide) (m_recv hC) rfl rfl (Nat.le_of_ble_eq_true rfl) dX8_sayingTold_58 rfl ?_
      obtain ⟨x5_10, ex5_10, h⟩ := bnd_e h
      refine gw_istore 61 [(5, J x5_10), (4, J x4_8), (2, Lg x2_5), (0, .ref o)] hC dX8_sayingTold_61 (by decide) ex5_10 rfl ?_
      refine gw_aload_n 63 3 hC dX8_sayingTold_63 rfl ?_
      refine gw_aload_n 64 3 hC dX8_sayingTold_64 rfl ?_
      refine mg_13 65 hC dX8_sayingTold_65 ?_
      obtain ⟨z11, ez11, h⟩ := opt_e h
      refine gw_callV (As := [.ref (o + mO 13)]) (rest := []) (st' := []) 68 1 hC (met_asks ez11 l) (lw_V q2093 q2095 qs56 q161 q2096) (by decide +kernel) (by decide) (m_recv hC) rfl rfl (Nat.le_of_ble_eq_true rfl) dX8_sayingTold_68 rfl ?_
      refine gw_aload_n 71 3 hC dX8_sayingTold_71 rfl ?_
      refine gw_iconst 72 hC dX8_sayingTold_72 ?_
      refine gw_bipush 73 hC dX8_sayingTold_73 (by decide) ?_
      obtain ⟨z12, ez12, h⟩ := opt_e h
      refine gw_callV (As := [J 0, J 9]) (rest := []) (st' := [J z12.1]) 75 2 hC (met_number ez12 l) (lw_V q2116 q2118 qs61 q161 q2119) (by decide +kernel) (by decide) (m_recv hC) rfl rfl (Nat.le_of_ble_eq_true rfl) dX8_sayingTold_75 rfl ?_
      obtain ⟨x6_13, ex6_13, h⟩ := bnd_e h
      refine gw_istore 78 [(6, J x6_13), (5, J x5_10), (4, J x4_8), (2, Lg x2_5), (0, .ref o)] hC dX8_sayingTold_78 (by decide) ex6_13 rfl ?_
      refine gw_aload_n 80 4 hC dX8_sayingTold_80 rfl ?_
      refine mg_5 81 hC dX8_sayingTold_81 ?_
      refine gw_if_eq 84 88 hC dX8_sayingTold_84 (by decide) (fun c14 => ?_) (fun c14 => ?_)
      · replace h := if_t h c14
        refine gw_aload_n 88 4 hC dX8_sayingTold_88 rfl ?_
        refine mg_37 89 hC dX8_sayingTold_89 ?_
        refine gw_aload_n 92 4 hC dX8_sayingTold_92 rfl ?_
        refine mg_36 93 hC dX8_sayingTold_93 ?_
        refine gw_iconst 96 hC dX8_sayingTold_96 ?_
        obtain ⟨g15, h⟩ := gd_e h
        refine m_iald 97 36 hC (by decide) rfl g15 dX8_sayingTold_97 ?_
        refine gw_lload_n 98 3 hC dX8_sayingTold_98 rfl ?_
        obtain ⟨g16, h⟩ := gd_e h
        obtain ⟨s17, es17, h⟩ := bnd_e h
        refine m_last 99 37 hC (MIn_self o) (by decide) rfl g16 es17 dX8_sayingTold_99 ?_
        refine gw_aload_n 100 4 hC dX8_sayingTold_100 rfl ?_
        refine mg_38 101 hC dX8_sayingTold_101 ?_
        refine gw_iconst 104 hC dX8_sayingTold_104 ?_
        refine gw_aload_n 105 4 hC dX8_sayingTold_105 rfl ?_
        refine mg_36 106 hC dX8_sayingTold_106 ?_
        refine gw_iconst 109 hC dX8_sayingTold_109 ?_
        obtain ⟨g18, h⟩ := gd_e h
        refine m_iald 110 36 hC (by decide) rfl g18 dX8_sayingTold_110 ?_
        refine gw_imul 111 hC dX8_sayingTold_111 ?_
        refine gw_iload 112 2 hC dX8_sayingTold_112 rfl ?_
        obtain ⟨g19, h⟩ := gd_e h
        obtain ⟨s20, es20, h⟩ := bnd_e h
        refine m_iast 114 38 hC (MIn_self o) (by decide) rfl g19 es20 dX8_sayingTold_114 ?_
        refine gw_aload_n 115 4 hC dX8_sayingTold_115 rfl ?_
        refine mg_38 116 hC dX8_sayingTold_116 ?_
        refine gw_iconst 119 hC dX8_sayingTold_119 ?_
        refine gw_aload_n 120 4 hC dX8_sayingTold_120 rfl ?_
        refine mg_36 121 hC dX8_sayingTold_121 ?_
        refine gw_iconst 124 hC dX8_sayingTold_124 ?_
        obtain ⟨g21, h⟩ := gd_e h
        refine m_iald 125 36 hC (by decide) rfl g21 dX8_sayingTold_125 ?_
        refine gw_imul 126 hC dX8_sayingTold_126 ?_
        refine gw_iconst 127 hC dX8_sayingTold_127 ?_
        refine gw_iadd 128 hC dX8_sayingTold_128 ?_
        refine gw_iload 129 1 hC dX8_sayingTold_129 rfl ?_
        obtain ⟨g22, h⟩ := gd_e h
        obtain ⟨s23, es23, h⟩ := bnd_e h
        refine m_iast 131 38 hC (MIn_self o) (by decide) rfl g22 es23 dX8_sayingTold_131 ?_
        refine gw_aload_n 132 4 hC dX8_sayingTold_132 rfl ?_
        refine mg_38 133 hC dX8_sayingTold_133 ?_
        refine gw_iconst 136 hC dX8_sayingTold_136 ?_
        refine gw_aload_n 137 4 hC dX8_sayingTold_137 rfl ?_
        refine mg_36 138 hC dX8_sayingTold_138 ?_
        refine gw_iconst 141 hC dX8_sayingTold_141 ?_
        obtain ⟨g24, h⟩ := gd_e h
        refine m_iald 142 36 hC (by decide) rfl g24 dX8_sayingTold_142 ?_
        refine gw_imul 143 hC dX8_sayingTold_143 ?_
        refine gw_iconst 144 hC dX8_sayingTold_144 ?_
        refine gw_iadd 145 hC dX8_sayingTold_145 ?_
        refine gw_iload 146 0 hC dX8_sayingTold_146 rfl ?_
        obtain ⟨g25, h⟩ := gd_e h
        obtain ⟨s26, es26, h⟩ := bnd_e h
        refine m_iast 148 38 hC (MIn_self o) (by decide) rfl g25 es26 dX8_sayingTold_148 ?_
        refine gw_aload_n 149 4 hC dX8_sayingTold_149 rfl ?_
        refine mg_36 150 hC dX8_sayingTold_150 ?_
        refine gw_iconst 153 hC dX8_sayingTold_153 ?_
        refine gw_dup2 154 hC dX8_sayingTold_154 rfl rfl ?_
        obtain ⟨g27, h⟩ := gd_e h
        refine m_iald 155 36 hC (by decide) rfl g27 dX8_sayingTold_155 ?_
        refine gw_iconst 156 hC dX8_sayingTold_156 ?_
        refine gw_iadd 157 hC dX8_sayingTold_157 ?_
        obtain ⟨g28, h⟩ := gd_e h
        obtain ⟨s29, es29, h⟩ := bnd_e h
        refine m_iast 158 36 hC (MIn_self o) (by decide) rfl g28 es29 dX8_sayingTold_158 ?_
        exact gw_vret 159 hC dX8_sayingTold_159 h
      · replace h := if_f h c14
        exact gw_vret 87 hC dX8_sayingTold_87 h
    · replace h := if_f h c3
      exact gw_vret 31 hC dX8_sayingTold_31 h
  refine gw_if_ne 4 24 hC dX8_sayingTold_4 (by decide) (fun c31 => ?_) (fun c31 => ?_)
  · replace h := if_f h c31
    refine gw_sub [0] rfl ?_
    exact hj30 _ h
  · replace h := if_t h c31
    refine gw_aload_n 7 0 hC dX8_sayingTold_7 rfl ?_
    refine mg_36 8 hC dX8_sayingTold_8 ?_
    refine gw_iconst 11 hC dX8_sayingTold_11 ?_
    obtain ⟨g32, h⟩ := gd_e h
    refine m_iald 12 36 hC (by decide) rfl g32 dX8_sayingTold_12 ?_
    refine gw_bipush 13 hC dX8_sayingTold_13 (by decide) ?_
    refine gw_icmp_ne 15 24 hC dX8_sayingTold_15 (by decide) (fun c33 => ?_) (fun c33 => ?_)
    · replace h := if_f h c33
      refine gw_sub [0] rfl ?_
      exact hj30 _ h
    · replace h := if_t h c33
      refine gw_aload_n 18 0 hC dX8_sayingTold_18 rfl ?_
      refine gw_iconst 19 hC dX8_sayingTold_19 ?_
      refine gw_iload_n 20 1 hC dX8_sayingTold_20 rfl ?_
      obtain ⟨z34, ez34, h⟩ := opt_e h
      refine gw_callV (As := [J 5, J a1]) (rest := []) (st' := []) 21 2 hC (met_fail ez34 l) (lw_V q2112 q2114 qs60 q161 q2115) (by decide +kernel) (by decide) (m_recv hC) rfl rfl (Nat.le_of_ble_eq_true rfl) dX8_sayingTold_21 rfl ?_
      refine gw_sub [0] rfl ?_
      exact hj30 _ h
/-! verbTold(I)V -/
noncomputable def m_verbTold (a1 : Int) (s0 : MS) : Option (Int × MS) :=
  bnd (fun (s2 : MS) =>
      if i32 (s2 5 0) = 0 then
        Option.bind (m_newName s2) fun z4 =>
        bnd z4.1 fun x2_5 =>
        Option.bind (m_asks 15 z4.2) fun z6 =>
        Option.bind (m_number 0 9 z6.2) fun z7 =>
        bnd z7.1 fun x4_8 =>
        Option.bind (m_asks 16 z7.2) fun z9 =>
        Option.bind (m_number 0 9 z9.2) fun z10 =>
        bnd z10.1 fun x5_11 =>
        if i32 (z10.2 5 0) = 0 then
          gd (ok 4 1) <|
          gd (ok 32 (8 + (z10.2 36 (i32 1)))) <|
          bnd (up z10.2 37 (i32 (8 + (z10.2 36 (i32 1)))) x2_5) fun s15 =>
          gd (ok 4 1) <|
          gd (ok 28 (2 * (s15 36 (i32 1)))) <|
          bnd (up s15 39 (i32 (2 * (s15 36 (i32 1)))) x4_8) fun s18 =>
          gd (ok 4 1) <|
          gd (ok 28 ((2 * (s18 36 (i32 1))) + 1)) <|
          bnd (up s18 39 (i32 ((2 * (s18 36 (i32 1))) + 1)) x5_11) fun s21 =>
          gd (ok 4 1) <|
          gd (ok 4 1) <|
          bnd (up s21 36 (i32 1) ((s21 36 (i32 1)) + 1)) fun s24 =>
          some (0, s24)
        else
          some (0, z10.2)
      else
        some (0, s2)) fun j25 =>
  if i32 (s0 5 0) = 0 then
    gd (ok 4 1) <|
    if i32 (s0 36 (i32 1)) = i32 7 then
      Option.bind (m_fail 5 a1 s0) fun z29 =>
      j25 z29.2
    else
      j25 s0
  else
    j25 s0
theorem met_verbTold {D : MD} {o : Nat} {a1 : Int} {s0 : MS} {res : Int × MS} (h : m_verbTold a1 s0 = some res) (l : Launch) : GMet l yX8_verbTold cX8_verbTold 6 none 6 (MRp D o) (MK D) (mAd o) [.ref o, J a1] s0 0 res := by
  refine GMet.of [(0, .ref o), (1, J a1)] (by decide) (MK_moved D) (Nat.le_of_ble_eq_true rfl) rfl ?_
  intro p e s m args below meth c hC
  have hC : GC p s m args meth c cX8_verbTold RX8 6 none (MK D) := hC
  unfold m_verbTold at h
  refine gw_aload_n 0 0 hC dX8_verbTold_0 rfl ?_
  refine mg_5 1 hC dX8_verbTold_1 ?_
  obtain ⟨j25, ej25, h⟩ := bnd_e h
  have hj25 : ∀ (s2 : MS), j25 s2 = some res → GW p l e (rmd 6) s m args below meth c 6 (mAd o) (MRp D o) (MK D) 0 res s2 24 [(0, .ref o)] [] := by
    clear h
    intro s2 h
    subst ej25
    refine gw_aload_n 24 0 hC dX8_verbTold_24 rfl ?_
    refine mg_5 25 hC dX8_verbTold_25 ?_
    refine gw_if_eq 28 32 hC dX8_verbTold_28 (by decide) (fun c3 => ?_) (fun c3 => ?_)
    · replace h := if_t h c3
      refine gw_aload_n 32 0 hC dX8_verbTold_32 rfl ?_
      obtain ⟨z4, ez4, h⟩ := opt_e h
      refine gw_callV (As := []) (rest := []) (st' := [Lg z4.1]) 33 0 hC (met_newName ez4 l) (lw_V q2142 q2144 qs66 q161 q2145) (by decide +kernel) (by decide) (m_recv hC) rfl rfl (Nat.le_of_ble_eq_true rfl) dX8_verbTold_33 rfl ?_
      obtain ⟨x2_5, ex2_5, h⟩ := bnd_e h
      refine gw_lstore_n 36 [(2, Lg x2_5), (0, .ref o)] hC dX8_verbTold_36 (by decide) ex2_5 rfl ?_
      refine gw_aload_n 37 1 hC dX8_verbTold_37 rfl ?_
      refine gw_aload_n 38 1 hC dX8_verbTold_38 rfl ?_
      refine mg_15 39 hC dX8_verbTold_39 ?_
      obtain ⟨z6, ez6, h⟩ := opt_e h
      refine gw_callV (As := [.ref (o + mO 15)]) (rest := []) (st' := []) 42 1 hC (met_asks ez6 l) (lw_V q2093 q2095 qs56 q161 q2096) (by decide +kernel) (by decide) (m_recv hC) rfl rfl (Nat.le_of_ble_eq_true rfl) dX8_verbTold_42 rfl ?_
      refine gw_aload_n 45 1 hC dX8_verbTold_45 rfl ?_
      refine gw_iconst 46 hC dX8_verbTold_46 ?_
      refine gw_bipush 47 hC dX8_verbTold_47 (by decide) ?_
      obtain ⟨z7, ez7, h⟩ := opt_e h
      refine gw_callV (As := [J 0, J 9]) (rest := []) (st' := [J z7.1]) 49 2 hC (met_number ez7 l) (lw_V q2116 q2118 qs61 q161 q2119) (by decide +kernel) (by decide) (m_recv hC) rfl rfl (Nat.le_of_ble_eq_true rfl) dX8_verbTold_49 rfl ?_
      obtain ⟨x4_8, ex4_8, h⟩ := bnd_e h
      refine gw_istore 52 [(4, J x4_8), (2, Lg x2_5), (0, .ref o)] hC dX8_verbTold_52 (by decide) ex4_8 rfl ?_
      refine gw_aload_n 54 2 hC dX8_verbTold_54 rfl ?_
      refine gw_aload_n 55 2 hC dX8_verbTold_55 rfl ?_
      refine mg_16 56 hC dX8_verbTold_56 ?_
      obtain ⟨z9, ez9, h⟩ := opt_e h
      refine gw_callV (As := [.ref (o + mO 16)]) (rest := []) (st' := []) 59 1 hC (met_asks ez9 l) (lw_V q2093 q2095 qs56 q161 q2096) (by decide +kernel) (by decide) (m_recv hC) rfl rfl (Nat.le_of_ble_eq_true rfl) dX8_verbTold_59 rfl ?_
      refine gw_aload_n 62 2 hC dX8_verbTold_62 rfl ?_
      refine gw_iconst 63 hC dX8_verbTold_63 ?_
      refine gw_bipush 64 hC dX8_verbTold_64 (by decide) ?_
      obtain ⟨z10, ez10, h⟩ := opt_e h
      refine gw_callV (As := [J 0, J 9]) (rest := []) (st' := [J z10.1]) 66 2 hC (met_number ez10 l) (lw_V q2116 q2118 qs61 q161 q2119) (by decide +kernel) (by decide) (m_recv hC) rfl rfl (Nat.le_of_ble_eq_true rfl) dX8_verbTold_66 rfl ?_
      obtain ⟨x5_11, ex5_11, h⟩ := bnd_e h
      refine gw_istore 69 [(5, J x5_11), (4, J x4_8), (2, Lg x2_5), (0, .ref o)] hC dX8_verbTold_69 (by decide) ex5_11 rfl ?_
      refine gw_aload_n 71 3 hC dX8_verbTold_71 rfl ?_
      refine mg_5 72 hC dX8_verbTold_72 ?_
      refine gw_if_eq 75 79 hC dX8_verbTold_75 (by decide) (fun c12 => ?_) (fun c12 => ?_)
      · replace h := if_t h c12
        refine gw_aload_n 79 3 hC dX8_verbTold_79 rfl ?_
        refine mg_37 80 hC dX8_verbTold_80 ?_
        refine gw_bipush 83 hC dX8_verbTold_83 (by decide) ?_
        refine gw_aload_n 85 3 hC dX8_verbTold_85 rfl ?_
        refine mg_36 86 hC dX8_verbTold_86 ?_
        refine gw_iconst 89 hC dX8_verbTold_89 ?_
        obtain ⟨g13, h⟩ := gd_e h
        refine m_iald 90 36 hC (by decide) rfl g13 dX8_verbTold_90 ?_
        refine gw_iadd 91 hC dX8_verbTold_91 ?_
        refine gw_lload_n 92 2 hC dX8_verbTold_92 rfl ?_
        obtain ⟨g14, h⟩ := gd_e h
        obtain ⟨s15, es15, h⟩ := bnd_e h
        refine m_last 93 37 hC (MIn_self o) (by decide) rfl g14 es15 dX8_verbTold_93 ?_
        refine gw_aload_n 94 3 hC dX8_verbTold_94 rfl ?_
        refine mg_39 95 hC dX8_verbTold_95 ?_
        refine gw_iconst 98 hC dX8_verbTold_98 ?_
        refine gw_aload_n 99 3 hC dX8_verbTold_99 rfl ?_
        refine mg_36 100 hC dX8_verbTold_100 ?_
        refine gw_iconst 103 hC dX8_verbTold_103 ?_
        obtain ⟨g16, h⟩ := gd_e h
        refine m_iald 104 36 hC (by decide) rfl g16 dX8_verbTold_104 ?_
        refine gw_imul 105 hC dX8_verbTold_105 ?_
        refine gw_iload 106 1 hC dX8_verbTold_106 rfl ?_
        obtain ⟨g17, h⟩ := gd_e h
        obtain ⟨s18, es18, h⟩ := bnd_e h
        refine m_iast 108 39 hC (MIn_self o) (by decide) rfl g17 es18 dX8_verbTold_108 ?_
        refine gw_aload_n 109 3 hC dX8_verbTold_109 rfl ?_
        refine mg_39 110 hC dX8_verbTold_110 ?_
        refine gw_iconst 113 hC dX8_verbTold_113 ?_
        refine gw_aload_n 114 3 hC dX8_verbTold_114 rfl ?_
        refine mg_36 115 hC dX8_verbTold_115 ?_
        refine gw_iconst 118 hC dX8_verbTold_118 ?_
        obtain ⟨g19, h⟩ := gd_e h
        refine m_iald 119 36 hC (by decide) rfl g19 dX8_verbTold_119 ?_
        refine gw_imul 120 hC dX8_verbTold_120 ?_
        refine gw_iconst 121 hC dX8_verbTold_121 ?_
        refine gw_iadd 122 hC dX8_verbTold_122 ?_
        refine gw_iload 123 0 hC dX8_verbTold_123 rfl ?_
        obtain ⟨g20, h⟩ := gd_e h
        obtain ⟨s21, es21, h⟩ := bnd_e h
        refine m_iast 125 39 hC (MIn_self o) (by decide) rfl g20 es21 dX8_verbTold_125 ?_
        refine gw_aload_n 126 3 hC dX8_verbTold_126 rfl ?_
        refine mg_36 127 hC dX8_verbTold_127 ?_
        refine gw_iconst 130 hC dX8_verbTold_130 ?_
        refine gw_dup2 131 hC dX8_verbTold_131 rfl rfl ?_
        obtain ⟨g22, h⟩ := gd_e h
        refine m_iald 132 36 hC (by decide) rfl g22 dX8_verbTold_132 ?_
        refine gw_iconst 133 hC dX8_verbTold_133 ?_
        refine gw_iadd 134 hC dX8_verbTold_134 ?_
        obtain ⟨g23, h⟩ := gd_e h
        obtain ⟨s24, es24, h⟩ := bnd_e h
        refine m_iast 135 36 hC (MIn_self o) (by decide) rfl g23 es24 dX8_verbTold_135 ?_
        exact gw_vret 136 hC dX8_verbTold_136 h
      · replace h := if_f h c12
        exact gw_vret 78 hC dX8_verbTold_78 h
    · replace h := if_f h c3
      exact gw_vret 31 hC dX8_verbTold_31 h
  refine gw_if_ne 4 24 hC dX8_verbTold_4 (by decide) (fun c26 => ?_) (fun c26 => ?_)
  · replace h := if_f h c26
    refine gw_sub [0] rfl ?_
    exact hj25 _ h
  · replace h := if_t h c26
    refine gw_aload_n 7 0 hC dX8_verbTold_7 rfl ?_
    refine mg_36 8 hC dX8_verbTold_8 ?_
    refine gw_iconst 11 hC dX8_verbTold_11 ?_
    obtain ⟨g27, h⟩ := gd_e h
    refine m_iald 12 36 hC (by decide) rfl g27 dX8_verbTold_12 ?_
    refine gw_bipush 13 hC dX8_verbTold_13 (by decide) ?_
    refine gw_icmp_ne 15 24 hC dX8_verbTold_15 (by decide) (fun c28 => ?_) (fun c28 => ?_)
    · replace h := if_f h c28
      refine gw_sub [0] rfl ?_
      exact hj25 _ h
    · replace h := if_t h c28
      refine gw_aload_n 18 0 hC dX8_verbTold_18 rfl ?_
      refine gw_iconst 19 hC dX8_verbTold_19 ?_
      refine gw_iload_n 20 1 hC dX8_verbTold_20 rfl ?_
      obtain ⟨z29, ez29, h⟩ := opt_e h
      refine gw_callV (As := [J 5, J a1]) (rest := []) (st' := []) 21 2 hC (met_fail ez29 l) (lw_V q2112 q2114 qs60 q161 q2115) (by decide +kernel) (by decide) (m_recv hC) rfl rfl (Nat.le_of_ble_eq_true rfl) dX8_verbTold_21 rfl ?_
      refine gw_sub [0] rfl ?_
      exact hj25 _ h
/-! lentTold0()V -/
noncomputable def m_lentTold0_L7 (k37 : Int → MS → Option (Int × MS)) : Nat → Int → Int → MS → Option (Int × MS)
  | 0, _, _, _ => none
  | n + 1, x1_4, x3_5, s6 =>
    gd (ok 4 1) <|
    if i32 (s6 36 (i32 1)) ≤ i32 x3_5 then
      k37 x3_5 s6
    else
      gd (ok 32 (8 + x3_5)) <|
      if i64 (s6 37 (i32 (8 + x3_5))) = i64 x1_4 then
        k37 x3_5 s6
      else
        bnd (x3_5 + 1) fun x3_13 =>
        m_lentTold0_L7 k37 n x1_4 x3_13 s6
noncomputable def m_lentTold0 (s0 : MS) : Option (Int × MS) :=
  Option.bind (m_name s0) fun z1 =>
  bnd z1.1 fun x1_2 =>
  bnd 0 fun x3_3 =>
  m_lentTold0_L7
    (fun (x3_14 : Int) (s15 : MS) =>
      bnd (fun (x3_16 : Int) (s17 : MS) =>
          if i32 (s17 5 0) = 0 then
            bnd (up s17 40 0 (ior (s17 40 0) (ishl 1 x3_16))) fun s19 =>
            some (0, s19)
          else
            some (0, s17)) fun j20 =>
      if i32 (s15 5 0) = 0 then
        gd (ok 4 1) <|
        bnd (fun (x3_23 : Int) (s24 : MS) =>
            Option.bind (m_fail 3 (s24 34 0) s24) fun z25 =>
            j20 x3_23 z25.2) fun j26 =>
        if i32 x3_14 = i32 (s15 36 (i32 1)) then
          j26 x3_14 s15
        else
          if i32 (iand (ishr (s15 40 0) x3_14) 1) = i32 1 then
            j26 x3_14 s15
          else
            j20 x3_14 s15
      else
        j20 x3_14 s15)
    FU x1_2 x3_3 z1.2
theorem wm_lentTold0_L7 {p : Program} {l : Launch} {e : Env} {s : State} {m : MethodId} {args : Array Value} {below : List Frame} {meth : Method} {c : Code} {D : MD} {o : Nat} {res : Int × MS} {k37 : Int → MS → Option (Int × MS)} (hC : GC p s m args meth c cX8_lentTold0 RX8 4 none (MK D)) (hk37 : ∀ (x3_7 : Int) (s8 : MS), k37 x3_7 s8 = some res → GW p l e (rmd 5) s m args below meth c 4 (mAd o) (MRp D o) (MK D) 0 res s8 37 [(0, .ref o), (3, J x3_7)] []) : ∀ (n : Nat) (x1_4 : Int) (x3_5 : Int) (s6 : MS), m_lentTold0_L7 k37 n x1_4 x3_5 s6 = some res → GW p l e (rmd 5) s m args below meth c 4 (mAd o) (MRp D o) (MK D) 0 res s6 7 [(0, .ref o), (1, Lg x1_4), (3, J x3_5)] [] := by
  intro n
  induction n with
  | zero =>
    intro x1_4 x3_5 s6 h
    cases h
  | succ n ih =>
    intro x1_4 x3_5 s6 h
    rw [m_lentTold0_L7] at h
    refine gw_iload_n 7 2 hC dX8_lentTold0_7 rfl ?_
    refine gw_aload_n 8 0 hC dX8_lentTold0_8 rfl ?_
    refine mg_36 9 hC dX8_lentTold0_9 ?_
    refine gw_iconst 12 hC dX8_lentTold0_12 ?_
    obtain ⟨g9, h⟩ := gd_e h
    refine m_iald 13 36 hC (by decide) rfl g9 dX8_lentTold0_13 ?_
    refine gw_icmp_ge 14 37 hC dX8_lentTold0_14 (by decide) (fun c10 => ?_) (fun c10 => ?_)
    · replace h := if_t h c10
      refine gw_sub [0, 2] rfl ?_
      exact hk37 _ _ h
    · replace h := if_f h c10
      refine gw_aload_n 17 0 hC dX8_lentTold0_17 rfl ?_
      refine mg_37 18 hC dX8_lentTold0_18 ?_
      refine gw_bipush 21 hC dX8_lentTold0_21 (by decide) ?_
      refine gw_iload_n 23 2 hC dX8_lentTold0_23 rfl ?_
      refine gw_iadd 24 hC dX8_lentTold0_24 ?_
      obtain ⟨g11, h⟩ := gd_e h
      refine m_lald 25 37 hC (by decide) rfl g11 dX8_lentTold0_25 ?_
      refine gw_lload_n 26 1 hC dX8_lentTold0_26 rfl ?_
      refine gw_lcmp_eq 27 37 hC dX8_lentTold0_27 dX8_lentTold0_28 (by decide) (fun c12 => ?_) (fun c12 => ?_)
      · replace h := if_t h c12
        refine gw_sub [0, 2] rfl ?_
        exact hk37 _ _ h
      · replace h := if_f h c12
        obtain ⟨x3_13, ex3_13, h⟩ := bnd_e h
        refine gw_iinc 31 2 [(3, J x3_13), (0, .ref o), (1, Lg x1_4)] hC dX8_lentTold0_31 rfl ex3_13 (by decide) rfl ?_
        refine gw_goto 34 7 hC dX8_lentTold0_34 (by decide) ?_
        refine gw_sub [1, 2, 0] rfl ?_
        exact ih _ _ _ h
theorem met_lentTold0 {D : MD} {o : Nat} {s0 : MS} {res : Int × MS} (h : m_lentTold0 s0 = some res) (l : Launch) : GMet l yX8_lentTold0 cX8_lentTold0 4 none 5 (MRp D o) (MK D) (mAd o) [.ref o] s0 0 res := by
  refine GMet.of [(0, .ref o)] (by decide) (MK_moved D) (Nat.le_of_ble_eq_true rfl) rfl ?_
  intro p e s m args below meth c hC
  have hC : GC p s m args meth c cX8_lentTold0 RX8 4 none (MK D) := hC
  unfold m_lentTold0 at h
  refine gw_aload_n 0 0 hC dX8_lentTold0_0 rfl ?_
  obtain ⟨z1, ez1, h⟩ := opt_e h
  refine gw_callV (As := []) (rest := []) (st' := [Lg z1.1]) 1 0 hC (met_name ez1 l) (lw_V q2146 q2148 qs67 q161 q2149) (by decide +kernel) (by decide) (m_recv hC) rfl rfl (Nat.le_of_ble_eq_true rfl) dX8_lentTold0_1 rfl ?_
  obtain ⟨x1_2, ex1_2, h⟩ := bnd_e h
  refine gw_lstore_n 4 [(1, Lg x1_2), (0, .ref o)] hC dX8_lentTold0_4 (by decide) ex1_2 rfl ?_
  refine gw_iconst 5 hC dX8_lentTold0_5 ?_
  obtain ⟨x3_3, ex3_3, h⟩ := bnd_e h
  refine gw_istore_n 6 [(3, J x3_3), (1, Lg x1_2), (0, .ref o)] hC dX8_lentTold0_6 (by decide) ex3_3 rfl ?_
  refine gw_sub [2, 1, 0] rfl ?_
  refine wm_lentTold0_L7 hC (fun x3_14 s15 h => ?_) FU _ _ _ h
  · refine gw_aload_n 37 0 hC dX8_lentTold0_37 rfl ?_
    refine mg_5 38 hC dX8_lentTold0_38 ?_
    obtain ⟨j20, ej20, h⟩ := bnd_e h
    have hj20 : ∀ (x3_16 : Int) (s17 : MS), j20 x3_16 s17 = some res → GW p l e (rmd 5) s m args below meth c 4 (mAd o) (MRp D o) (MK D) 0 res s17 75 [(0, .ref o), (3, J x3_16)] [] := by
      clear h
      intro x3_16 s17 h
      subst ej20
      refine gw_aload_n 75 0 hC dX8_lentTold0_75 rfl ?_
      refine mg_5 76 hC dX8_lentTold0_76 ?_
      refine gw_if_ne 79 94 hC dX8_lentTold0_79 (by decide) (fun c18 => ?_) (fun c18 => ?_)
      · replace h := if_f h c18
        exact gw_vret 94 hC dX8_lentTold0_94 h
      · replace h := if_t h c18
        refine gw_aload_n 82 0 hC dX8_lentTold0_82 rfl ?_
        refine gw_dup 83 hC dX8_lentTold0_83 rfl ?_
        refine mg_40 84 hC dX8_lentTold0_84 ?_
        refine gw_iconst 87 hC dX8_lentTold0_87 ?_
        refine gw_iload_n 88 1 hC dX8_lentTold0_88 rfl ?_
        refine gw_ishl 89 hC dX8_lentTold0_89 ?_
        refine gw_ior 90 hC dX8_lentTold0_90 ?_
        obtain ⟨s19, es19, h⟩ := bnd_e h
        refine mp_40 91 hC (MIn_self o) es19 dX8_lentTold0_91 ?_
        exact gw_vret 94 hC dX8_lentTold0_94 h
    refine gw_if_ne 41 75 hC dX8_lentTold0_41 (by decide) (fun c21 => ?_) (fun c21 => ?_)
    · replace h := if_f h c21
      refine gw_sub [0, 1] rfl ?_
      exact hj20 _ _ h
    · replace h := if_t h c21
      refine gw_iload_n 44 1 hC dX8_lentTold0_44 rfl ?_
      refine gw_aload_n 45 0 hC dX8_lentTold0_45 rfl ?_
      refine mg_36 46 hC dX8_lentTold0_46 ?_
      refine gw_iconst 49 hC dX8_lentTold0_49 ?_
      obtain ⟨g22, h⟩ := gd_e h
      refine m_iald 50 36 hC (by decide) rfl g22 dX8_lentTold0_50 ?_
      obtain ⟨j26, ej26, h⟩ := bnd_e h
      have hj26 : ∀ (x3_23 : Int) (s24 : MS), j26 x3_23 s24 = some res → GW p l e (rmd 5) s m args below meth c 4 (mAd o) (MRp D o) (MK D) 0 res s24 66 [(0, .ref o), (3, J x3_23)] [] := by
        clear h
        intro x3_23 s24 h
        subst ej26
        refine gw_aload_n 66 0 hC dX8_lentTold0_66 rfl ?_
        refine gw_iconst 67 hC dX8_lentTold0_67 ?_
        refine gw_aload_n 68 0 hC dX8_lentTold0_68 rfl ?_
        refine mg_34 69 hC dX8_lentTold0_69 ?_
        obtain ⟨z25, ez25, h⟩ := opt_e h
        refine gw_callV (As := [J 3, J (s24 34 0)]) (rest := []) (st' := []) 72 2 hC (met_fail ez25 l) (lw_V q2112 q2114 qs60 q161 q2115) (by decide +kernel) (by decide) (m_recv hC) rfl rfl (Nat.le_of_ble_eq_true rfl) dX8_lentTold0_72 rfl ?_
        refine gw_sub [0, 1] rfl ?_
        exact hj20 _ _ h
      refine gw_icmp_eq 51 66 hC dX8_lentTold0_51 (by decide) (fun c27 => ?_) (fun c27 => ?_)
      · replace h := if_t h c27
        refine gw_sub [0, 1] rfl ?_
        exact hj26 _ _ h
      · replace h := if_f h c27
        refine gw_aload_n 54 0 hC dX8_lentTold0_54 rfl ?_
        refine mg_40 55 hC dX8_lentTold0_55 ?_
        refine gw_iload_n 58 1 hC dX8_lentTold0_58 rfl ?_
        refine gw_ishr 59 hC dX8_lentTold0_59 ?_
        refine gw_iconst 60 hC dX8_lentTold0_60 ?_
        refine gw_iand 61 hC dX8_lentTold0_61 ?_
        refine gw_iconst 62 hC dX8_lentTold0_62 ?_
        refine gw_icmp_ne 63 75 hC dX8_lentTold0_63 (by decide) (fun c28 => ?_) (fun c28 => ?_)
        · replace h := if_f h c28
          refine gw_sub [0, 1] rfl ?_
          exact hj20 _ _ h
        · replace h := if_t h c28
          refine gw_sub [0, 1] rfl ?_
          exact hj26 _ _ h
/-! qOpens(II)V -/
noncomputable def m_qOpens (a1 : Int) (a2 : Int) (s0 : MS) : Option (Int × MS) :=
  if i32 (s0 5 0) = 0 then
    if i32 (s0 100 0) = i32 6 then
      Option.bind (m_fail 4 a2 s0) fun z9 =>
      some (0, z9.2)
    else
      bnd (up s0 100 0 ((s0 100 0) + 1)) fun s5 =>
      gd (ok 1700 (s5 99 0)) <|
      bnd (up s5 98 (i32 (s5 99 0)) a1) fun s7 =>
      bnd (up s7 99 0 ((s7 99 0) + 1)) fun s8 =>
      some (0, s8)
  else
    some (0, s0)
theorem met_qOpens {D : MD} {o : Nat} {a1 : Int} {a2 : Int} {s0 : MS} {res : Int × MS} (h : m_qOpens a1 a2 s0 = some res) (l : Launch) : GMet l yX8_qOpens cX8_qOpens 3 none 2 (MRp D o) (MK D) (mAd o) [.ref o, J a1, J a2] s0 0 res := by
  refine GMet.of [(0, .ref o), (1, J a1), (2, J a2)] (by decide) (MK_moved D) (Nat.le_of_ble_eq_true rfl) rfl ?_
  intro p e s m args below meth c hC
  have hC : GC p s m args meth c cX8_qOpens RX8 3 none (MK D) := hC
  unfold m_qOpens at h
  refine gw_aload_n 0 0 hC dX8_qOpens_0 rfl ?_
  refine mg_5 1 hC dX8_qOpens_1 ?_
  refine gw_if_eq 4 8 hC dX8_qOpens_4 (by decide) (fun c3 => ?_) (fun c3 => ?_)
  · replace h := if_t h c3
    refine gw_aload_n 8 0 hC dX8_qOpens_8 rfl ?_
    refine mg_100 9 hC dX8_qOpens_9 ?_
    refine gw_bipush 12 hC dX8_qOpens_12 (by decide) ?_
    refine gw_icmp_ne 14 24 hC dX8_qOpens_14 (by decide) (fun c4 => ?_) (fun c4 => ?_)
    · replace h := if_f h c4
      refine gw_aload_n 24 0 hC dX8_qOpens_24 rfl ?_
      refine gw_dup 25 hC dX8_qOpens_25 rfl ?_
      refine mg_100 26 hC dX8_qOpens_26 ?_
      refine gw_iconst 29 hC dX8_qOpens_29 ?_
      refine gw_iadd 30 hC dX8_qOpens_30 ?_
      obtain ⟨s5, es5, h⟩ := bnd_e h
      refine mp_100 31 hC (MIn_self o) es5 dX8_qOpens_31 ?_
      refine gw_aload_n 34 0 hC dX8_qOpens_34 rfl ?_
      refine mg_98 35 hC dX8_qOpens_35 ?_
      refine gw_aload_n 38 0 hC dX8_qOpens_38 rfl ?_
      refine mg_99 39 hC dX8_qOpens_39 ?_
      refine gw_iload_n 42 1 hC dX8_qOpens_42 rfl ?_
      obtain ⟨g6, h⟩ := gd_e h
      obtain ⟨s7, es7, h⟩ := bnd_e h
      refine m_iast 43 98 hC (MIn_self o) (by decide) rfl g6 es7 dX8_qOpens_43 ?_
      refine gw_aload_n 44 0 hC dX8_qOpens_44 rfl ?_
      refine gw_dup 45 hC dX8_qOpens_45 rfl ?_
      refine mg_99 46 hC dX8_qOpens_46 ?_
      refine gw_iconst 49 hC dX8_qOpens_49 ?_
      refine gw_iadd 50 hC dX8_qOpens_50 ?_
      obtain ⟨s8, es8, h⟩ := bnd_e h
      refine mp_99 51 hC (MIn_self o) es8 dX8_qOpens_51 ?_
      exact gw_vret 54 hC dX8_qOpens_54 h
    · replace h := if_t h c4
      refine gw_aload_n 17 0 hC dX8_qOpens_17 rfl ?_
      refine gw_iconst 18 hC dX8_qOpens_18 ?_
      refine gw_iload_n 19 2 hC dX8_qOpens_19 rfl ?_
      obtain ⟨z9, ez9, h⟩ := opt_e h
      refine gw_callV (As := [J 4, J a2]) (rest := []) (st' := []) 20 2 hC (met_fail ez9 l) (lw_V q2112 q2114 qs60 q161 q2115) (by decide +kernel) (by decide) (m_recv hC) rfl rfl (Nat.le_of_ble_eq_true rfl) dX8_qOpens_20 rfl ?_
      exact gw_vret 23 hC dX8_qOpens_23 h
  · replace h := if_f h c3
    exact gw_vret 7 hC dX8_qOpens_7 h
/-! qCode(I)V -/
noncomputable def m_qCode (a1 : Int) (s0 : MS) : Option (Int × MS) :=
  gd (ok 1700 (s0 97 0)) <|
  bnd (up s0 96 (i32 (s0 97 0)) a1) fun s3 =>
  bnd (up s3 97 0 ((s3 97 0) + 1)) fun s4 =>
  some (0, s4)
theorem met_qCode {D : MD} {o : Nat} {a1 : Int} {s0 : MS} {res : Int × MS} (h : m_qCode a1 s0 = some res) (l : Launch) : GMet l yX8_qCode cX8_qCode 2 none 1 (MRp D o) (MK D) (mAd o) [.ref o, J a1] s0 0 res := by
  refine GMet.of [(0, .ref o), (1, J a1)] (by decide) (MK_moved D) (Nat.le_of_ble_eq_true rfl) rfl ?_
  intro p e s m args below meth c hC
  have hC : GC p s m args meth c cX8_qCode RX8 2 none (MK D) := hC
  unfold m_qCode at h
  refine gw_aload_n 0 0 hC dX8_qCode_0 rfl ?_
  refine mg_96 1 hC dX8_qCode_1 ?_
  refine gw_aload_n 4 0 hC dX8_qCode_4 rfl ?_
  refine mg_97 5 hC dX8_qCode_5 ?_
  refine gw_iload_n 8 1 hC dX8_qCode_8 rfl ?_
  obtain ⟨g2, h⟩ := gd_e h
  obtain ⟨s3, es3, h⟩ := bnd_e h
  refine m_iast 9 96 hC (MIn_self o) (by decide) rfl g2 es3 dX8_qCode_9 ?_
  refine gw_aload_n 10 0 hC dX8_qCode_10 rfl ?_
  refine gw_dup 11 hC dX8_qCode_11 rfl ?_
  refine mg_97 12 hC dX8_qCode_12 ?_
  refine gw_iconst 15 hC dX8_qCode_15 ?_
  refine gw_iadd 16 hC dX8_qCode_16 ?_
  obtain ⟨s4, es4, h⟩ := bnd_e h
  refine mp_97 17 hC (MIn_self o) es4 dX8_qCode_17 ?_
  exact gw_vret 20 hC dX8_qCode_20 h
/-! qWordHere()I -/
noncomputable def m_qWordHere (s0 : MS) : Option (Int × MS) :=
  Option.bind (m_isHere 85 s0) fun z1 =>
  if i32 z1.1 = 0 then
    Option.bind (m_isHere 86 z1.2) fun z3 =>
    if i32 z3.1 = 0 then
      Option.bind (m_isHere 87 z3.2) fun z5 =>
      if i32 z5.1 = 0 then
        bnd (fun (s7 : MS) =>
            Option.bind (m_isHere 89 s7) fun z8 =>
            if i32 z8.1 = 0 then
              Option.bind (m_isHere 90 z8.2) fun z10 =>
              if i32 z10.1 = 0 then
                Option.bind (m_isHere 91 z10.2) fun z12 =>
                if i32 z12.1 = 0 then
                  Option.bind (m_isHere 92 z12.2) fun z14 =>
                  if i32 z14.1 = 0 then
                    Option.bind (m_isHere 93 z14.2) fun z16 =>
                    if i32 z16.1 = 0 then
                      Option.bind (m_isHere 94 z16.2) fun z18 =>
                      if i32 z18.1 = 0 then
                        Option.bind (m_isHere 95 z18.2) fun z20 =>
                        if i32 z20.1 = 0 then
                          some ((-1), z20.2)
                        else
                          some (10, z20.2)
                      else
                        some (9, z18.2)
                    else
                      some (8, z16.2)
                  else
                    some (7, z14.2)
                else
                  some (6, z12.2)
              else
                some (5, z10.2)
            else
              some (4, z8.2)) fun j22 =>
        if i32 (z5.2 47 0) = 0 then
          Option.bind (m_isHere 88 z5.2) fun z24 =>
          if i32 z24.1 = 0 then
            j22 z24.2
          else
            some (3, z24.2)
        else
          j22 z5.2
      else
        some (2, z5.2)
    else
      some (1, z3.2)
  else
    some (0, z1.2)
theorem met_qWordHere {D : MD} {o : Nat} {s0 : MS} {res : Int × MS} (h : m_qWordHere s0 = some res) (l : Launch) : GMet l yX8_qWordHere cX8_qWordHere 1 (some .int) 3 (MRp D o) (MK D) (mAd o) [.ref o] s0 1 res := by
  refine GMet.of [(0, .ref o)] (by decide) (MK_moved D) (Nat.le_of_ble_eq_true rfl) rfl ?_
  intro p e s m args below meth c hC
  have hC : GC p s m args meth c cX8_qWordHere RX8 1 (some .int) (MK D) := hC
  unfold m_qWordHere at h
  refine gw_aload_n 0 0 hC dX8_qWordHere_0 rfl ?_
  refine gw_aload_n 1 0 hC dX8_qWordHere_1 rfl ?_
  refine mg_85 2 hC dX8_qWordHere_2 ?_
  obtain ⟨z1, ez1, h⟩ := opt_e h
  refine gw_callV (As := [.ref (o + mO 85)]) (rest := []) (st' := [J z1.1]) 5 1 hC (met_isHere ez1 l) (lw_V q2101 q2103 qs58 q161 q2104) (by decide +kernel) (by decide) (m_recv hC) rfl rfl (Nat.le_of_ble_eq_true rfl) dX8_qWordHere_5 rfl ?_
  refine gw_if_eq 8 13 hC dX8_qWordHere_8 (by decide) (fun c2 => ?_) (fun c2 => ?_)
  · replace h := if_t h c2
    refine gw_aload_n 13 0 hC dX8_qWordHere_13 rfl ?_
    refine gw_aload_n 14 0 hC dX8_qWordHere_14 rfl ?_
    refine mg_86 15 hC dX8_qWordHere_15 ?_
    obtain ⟨z3, ez3, h⟩ := opt_e h
    refine gw_callV (As := [.ref (o + mO 86)]) (rest := []) (st' := [J z3.1]) 18 1 hC (met_isHere ez3 l) (lw_V q2101 q2103 qs58 q161 q2104) (by decide +kernel) (by decide) (m_recv hC) rfl rfl (Nat.le_of_ble_eq_true rfl) dX8_qWordHere_18 rfl ?_
    refine gw_if_eq 21 26 hC dX8_qWordHere_21 (by decide) (fun c4 => ?_) (fun c4 => ?_)
    · replace h := if_t h c4
      refine gw_aload_n 26 0 hC dX8_qWordHere_26 rfl ?_
      refine gw_aload_n 27 0 hC dX8_qWordHere_27 rfl ?_
      refine mg_87 28 hC dX8_qWordHere_28 ?_
      obtain ⟨z5, ez5, h⟩ := opt_e h
      refine gw_callV (As := [.ref (o + mO 87)]) (rest := []) (st' := [J z5.1]) 31 1 hC (met_isHere ez5 l) (lw_V q2101 q2103 qs58 q161 q2104) (by decide +kernel) (by decide) (m_recv hC) rfl rfl (Nat.le_of_ble_eq_true rfl) dX8_qWordHere_31 rfl ?_
      refine gw_if_eq 34 39 hC dX8_qWordHere_34 (by decide) (fun c6 => ?_) (fun c6 => ?_)
      · replace h := if_t h c6
        refine gw_aload_n 39 0 hC dX8_qWordHere_39 rfl ?_
        refine mg_47 40 hC dX8_qWordHere_40 ?_
        obtain ⟨j22, ej22, h⟩ := bnd_e h
        have hj22 : ∀ (s7 : MS), j22 s7 = some res → GW p l e (rmd 3) s m args below meth c 1 (mAd o) (MRp D o) (MK D) 1 res s7 59 [(0, .ref o)] [] := by
          clear h
          intro s7 h
          subst ej22
          refine gw_aload_n 59 0 hC dX8_qWordHere_59 rfl ?_
          refine gw_aload_n 60 0 hC dX8_qWordHere_60 rfl ?_
          refine mg_89 61 hC dX8_qWordHere_61 ?_
          obtain ⟨z8, ez8, h⟩ := opt_e h
          refine gw_callV (As := [.ref (o + mO 89)]) (rest := []) (st' := [J z8.1]) 64 1 hC (met_isHere ez8 l) (lw_V q2101 q2103 qs58 q161 q2104) (by decide +kernel) (by decide) (m_recv hC) rfl rfl (Nat.le_of_ble_eq_true rfl) dX8_qWordHere_64 rfl ?_
          refine gw_if_eq 67 72 hC dX8_qWordHere_67 (by decide) (fun c9 => ?_) (fun c9 => ?_)
          · replace h := if_t h c9
            refine gw_aload_n 72 0 hC dX8_qWordHere_72 rfl ?_
            refine gw_aload_n 73 0 hC dX8_qWordHere_73 rfl ?_
            refine mg_90 74 hC dX8_qWordHere_74 ?_
            obtain ⟨z10, ez10, h⟩ := opt_e h
            refine gw_callV (As := [.ref (o + mO 90)]) (rest := []) (st' := [J z10.1]) 77 1 hC (met_isHere ez10 l) (lw_V q2101 q2103 qs58 q161 q2104) (by decide +kernel) (by decide) (m_recv hC) rfl rfl (Nat.le_of_ble_eq_true rfl) dX8_qWordHere_77 rfl ?_
            refine gw_if_eq 80 85 hC dX8_qWordHere_80 (by decide) (fun c11 => ?_) (fun c11 => ?_)
            · replace h := if_t h c11
              refine gw_aload_n 85 0 hC dX8_qWordHere_85 rfl ?_
              refine gw_aload_n 86 0 hC dX8_qWordHere_86 rfl ?_
              refine mg_91 87 hC dX8_qWordHere_87 ?_
              obtain ⟨z12, ez12, h⟩ := opt_e h
              refine gw_callV (As := [.ref (o + mO 91)]) (rest := []) (st' := [J z12.1]) 90 1 hC (met_isHere ez12 l) (lw_V q2101 q2103 qs58 q161 q2104) (by decide +kernel) (by decide) (m_recv hC) rfl rfl (Nat.le_of_ble_eq_true rfl) dX8_qWordHere_90 rfl ?_
              refine gw_if_eq 93 99 hC dX8_qWordHere_93 (by decide) (fun c13 => ?_) (fun c13 => ?_)
              · replace h := if_t h c13
                refine gw_aload_n 99 0 hC dX8_qWordHere_99 rfl ?_
                refine gw_aload_n 100 0 hC dX8_qWordHere_100 rfl ?_
                refine mg_92 101 hC dX8_qWordHere_101 ?_
                obtain ⟨z14, ez14, h⟩ := opt_e h
                refine gw_callV (As := [.ref (o + mO 92)]) (rest := []) (st' := [J z14.1]) 104 1 hC (met_isHere ez14 l) (lw_V q2101 q2103 qs58 q161 q2104) (by decide +kernel) (by decide) (m_recv hC) rfl rfl (Nat.le_of_ble_eq_true rfl) dX8_qWordHere_104 rfl ?_
                refine gw_if_eq 107 113 hC dX8_qWordHere_107 (by decide) (fun c15 => ?_) (fun c15 => ?_)
                · replace h := if_t h c15
                  refine gw_aload_n 113 0 hC dX8_qWordHere_113 rfl ?_
                  refine gw_aload_n 114 0 hC dX8_qWordHere_114 rfl ?_
                  refine mg_93 115 hC dX8_qWordHere_115 ?_
                  obtain ⟨z16, ez16, h⟩ := opt_e h
                  refine gw_callV (As := [.ref (o + mO 93)]) (rest := []) (st' := [J z16.1]) 118 1 hC (met_isHere ez16 l) (lw_V q2101 q2103 qs58 q161 q2104) (by decide +kernel) (by decide) (m_recv hC) rfl rfl (Nat.le_of_ble_eq_true rfl) dX8_qWordHere_118 rfl ?_
                  refine gw_if_eq 121 127 hC dX8_qWordHere_121 (by decide) (fun c17 => ?_) (fun c17 => ?_)
                  · replace h := if_t h c17
                    refine gw_aload_n 127 0 hC dX8_qWordHere_127 rfl ?_
                    refine gw_aload_n 128 0 hC dX8_qWordHere_128 rfl ?_
                    refine mg_94 129 hC dX8_qWordHere_129 ?_
                    obtain ⟨z18, ez18, h⟩ := opt_e h
                    refine gw_callV (As := [.ref (o + mO 94)]) (rest := []) (st' := [J z18.1]) 132 1 hC (met_isHere ez18 l) (lw_V q2101 q2103 qs58 q161 q2104) (by decide +kernel) (by decide) (m_recv hC) rfl rfl (Nat.le_of_ble_eq_true rfl) dX8_qWordHere_132 rfl ?_
                    refine gw_if_eq 135 141 hC dX8_qWordHere_135 (by decide) (fun c19 => ?_) (fun c19 => ?_)
                    · replace h := if_t h c19
                      refine gw_aload_n 141 0 hC dX8_qWordHere_141 rfl ?_
                      refine gw_aload_n 142 0 hC dX8_qWordHere_142 rfl ?_
                      refine mg_95 143 hC dX8_qWordHere_143 ?_
                      obtain ⟨z20, ez20, h⟩ := opt_e h
                      refine gw_callV (As := [.ref (o + mO 95)]) (rest := []) (st' := [J z20.1]) 146 1 hC (met_isHere ez20 l) (lw_V q2101 q2103 qs58 q161 q2104) (by decide +kernel) (by decide) (m_recv hC) rfl rfl (Nat.le_of_ble_eq_true rfl) dX8_qWordHere_146 rfl ?_
                      refine gw_if_eq 149 155 hC dX8_qWordHere_149 (by decide) (fun c21 => ?_) (fun c21 => ?_)
                      · replace h := if_t h c21
                        refine gw_iconst 155 hC dX8_qWordHere_155 ?_
                        exact gw_iret 156 hC dX8_qWordHere_156 h
                      · replace h := if_f h c21
                        refine gw_bipush 152 hC dX8_qWordHere_152 (by decide) ?_
                        exact gw_iret 154 hC dX8_qWordHere_154 h
                    · replace h := if_f h c19
                      refine gw_bipush 138 hC dX8_qWordHere_138 (by decide) ?_
                      exact gw_iret 140 hC dX8_qWordHere_140 h
                  · replace h := if_f h c17
                    refine gw_bipush 124 hC dX8_qWordHere_124 (by decide) ?_
                    exact gw_iret 126 hC dX8_qWordHere_126 h
                · replace h := if_f h c15
                  refine gw_bipush 110 hC dX8_qWordHere_110 (by decide) ?_
                  exact gw_iret 112 hC dX8_qWordHere_112 h
              · replace h := if_f h c13
                refine gw_bipush 96 hC dX8_qWordHere_96 (by decide) ?_
                exact gw_iret 98 hC dX8_qWordHere_98 h
            · replace h := if_f h c11
              refine gw_iconst 83 hC dX8_qWordHere_83 ?_
              exact gw_iret 84 hC dX8_qWordHere_84 h
          · replace h := if_f h c9
            refine gw_iconst 70 hC dX8_qWordHere_70 ?_
            exact gw_iret 71 hC dX8_qWordHere_71 h
        refine gw_if_ne 43 59 hC dX8_qWordHere_43 (by decide) (fun c23 => ?_) (fun c23 => ?_)
        · replace h := if_f h c23
          refine gw_sub [0] rfl ?_
          exact hj22 _ h
        · replace h := if_t h c23
          refine gw_aload_n 46 0 hC dX8_qWordHere_46 rfl ?_
          refine gw_aload_n 47 0 hC dX8_qWordHere_47 rfl ?_
          refine mg_88 48 hC dX8_qWordHere_48 ?_
          obtain ⟨z24, ez24, h⟩ := opt_e h
          refine gw_callV (As := [.ref (o + mO 88)]) (rest := []) (st' := [J z24.1]) 51 1 hC (met_isHere ez24 l) (lw_V q2101 q2103 qs58 q161 q2104) (by decide +kernel) (by decide) (m_recv hC) rfl rfl (Nat.le_of_ble_eq_true rfl) dX8_qWordHere_51 rfl ?_
          refine gw_if_eq 54 59 hC dX8_qWordHere_54 (by decide) (fun c25 => ?_) (fun c25 => ?_)
          · replace h := if_t h c25
            refine gw_sub [0] rfl ?_
            exact hj22 _ h
          · replace h := if_f h c25
            refine gw_iconst 57 hC dX8_qWordHere_57 ?_
            exact gw_iret 58 hC dX8_qWordHere_58 h
      · replace h := if_f h c6
        refine gw_iconst 37 hC dX8_qWordHere_37 ?_
        exact gw_iret 38 hC dX8_qWordHere_38 h
    · replace h := if_f h c4
      refine gw_iconst 24 hC dX8_qWordHere_24 ?_
      exact gw_iret 25 hC dX8_qWordHere_25 h
  · replace h := if_f h c2
    refine gw_iconst 11 hC dX8_qWordHere_11 ?_
    exact gw_iret 12 hC dX8_qWordHere_12 h
/-! isAllowed(I)Z -/
noncomputable def m_isAllowed (a1 : Int) (s0 : MS) : Option (Int × MS) :=
  if i32 (s0 47 0) = 0 then
    if i32 5 ≤ i32 a1 then
      some (0, s0)
    else
      some (1, s0)
  else
    bnd (fun (s3 : MS) =>
        some (1, s3)) fun j4 =>
    if i32 a1 = 0 then
      j4 s0
    else
      if i32 a1 ≤ i32 3 then
        some (0, s0)
      else
        j4 s0
theorem met_isAllowed {D : MD} {o : Nat} {a1 : Int} {s0 : MS} {res : Int × MS} (h : m_isAllowed a1 s0 = some res) (l : Launch) : GMet l yX8_isAllowed cX8_isAllowed 2 (some .boolean) 1 (MRp D o) (MK D) (mAd o) [.ref o, J a1] s0 1 res := by
  refine GMet.of [(0, .ref o), (1, J a1)] (by decide) (MK_moved D) (Nat.le_of_ble_eq_true rfl) rfl ?_
  intro p e s m args below meth c hC
  have hC : GC p s m args meth c cX8_isAllowed RX8 2 (some .boolean) (MK D) := hC
  unfold m_isAllowed at h
  refine gw_aload_n 0 0 hC dX8_isAllowed_0 rfl ?_
  refine mg_47 1 hC dX8_isAllowed_1 ?_
  refine gw_if_ne 4 20 hC dX8_isAllowed_4 (by decide) (fun c2 => ?_) (fun c2 => ?_)
  · replace h := if_f h c2
    refine gw_iload_n 20 1 hC dX8_isAllowed_20 rfl ?_
    obtain ⟨j4, ej4, h⟩ := bnd_e h
    have hj4 : ∀ (s3 : MS), j4 s3 = some res → GW p l e (rmd 1) s m args below meth c 2 (mAd o) (MRp D o) (MK D) 1 res s3 29 [] [] := by
      clear h
      intro s3 h
      subst ej4
      refine gw_iconst 29 hC dX8_isAllowed_29 ?_
      refine gw_goto 30 34 hC dX8_isAllowed_30 (by decide) ?_
      exact gw_zret 34 hC dX8_isAllowed_34 (by decide) h
    refine gw_if_eq 21 29 hC dX8_isAllowed_21 (by decide) (fun c5 => ?_) (fun c5 => ?_)
    · replace h := if_t h c5
      refine gw_sub [] rfl ?_
      exact hj4 _ h
    · replace h := if_f h c5
      refine gw_iload_n 24 1 hC dX8_isAllowed_24 rfl ?_
      refine gw_iconst 25 hC dX8_isAllowed_25 ?_
      refine gw_icmp_le 26 33 hC dX8_isAllowed_26 (by decide) (fun c6 => ?_) (fun c6 => ?_)
      · replace h := if_t h c6
        refine gw_iconst 33 hC dX8_isAllowed_33 ?_
        exact gw_zret 34 hC dX8_isAllowed_34 (by decide) h
      · replace h := if_f h c6
        refine gw_sub [] rfl ?_
        exact hj4 _ h
  · replace h := if_t h c2
    refine gw_iload_n 7 1 hC dX8_isAllowed_7 rfl ?_
    refine gw_iconst 8 hC dX8_isAllowed_8 ?_
    refine gw_icmp_ge 9 16 hC dX8_isAllowed_9 (by decide) (fun c7 => ?_) (fun c7 => ?_)
    · replace h := if_t h c7
      refine gw_iconst 16 hC dX8_isAllowed_16 ?_
      refine gw_goto 17 34 hC dX8_isAllowed_17 (by decide) ?_
      exact gw_zret 34 hC dX8_isAllowed_34 (by decide) h
    · replace h := if_f h c7
      refine gw_iconst 12 hC dX8_isAllowed_12 ?_
      refine gw_goto 13 34 hC dX8_isAllowed_13 (by decide) ?_
      exact gw_zret 34 hC dX8_isAllowed_34 (by decide) h
/-! qWordOf(II)I -/
noncomputable def m_qWordOf (a1 : Int) (a2 : Int) (s0 : MS) : Option (Int × MS) :=
  Option.bind (m_qWordHere s0) fun z3 =>
  bnd z3.1 fun x3_4 =>
  if i32 x3_4 < i32 a1 then
    some ((-1), z3.2)
  else
    if i32 a2 ≤ i32 x3_4 then
      some ((-1), z3.2)
    else
      Option.bind (m_isAllowed x3_4 z3.2) fun z7 =>
      if i32 z7.1 = 0 then
        some ((-1), z7.2)
      else
        some (x3_4, z7.2)
theorem met_qWordOf {D : MD} {o : Nat} {a1 : Int} {a2 : Int} {s0 : MS} {res : Int × MS} (h : m_qWordOf a1 a2 s0 = some res) (l : Launch) : GMet l yX8_qWordOf cX8_qWordOf 4 (some .int) 4 (MRp D o) (MK D) (mAd o) [.ref o, J a1, J a2] s0 1 res := by
  refine GMet.of [(0, .ref o), (1, J a1), (2, J a2)] (by decide) (MK_moved D) (Nat.le_of_ble_eq_true rfl) rfl ?_
  intro p e s m args below meth c hC
  have hC : GC p s m args meth c cX8_qWordOf RX8 4 (some .int) (MK D) := hC
  unfold m_qWordOf at h
  refine gw_aload_n 0 0 hC dX8_qWordOf_0 rfl ?_
  obtain ⟨z3, ez3, h⟩ := opt_e h
  refine gw_callV (As := []) (rest := []) (st' := [J z3.1]) 1 0 hC (met_qWordHere ez3 l) (lw_V q2196 q2198 qs79 q161 q2199) (by decide +kernel) (by decide) (m_recv hC) rfl rfl (Nat.le_of_ble_eq_true rfl) dX8_qWordOf_1 rfl ?_
  obtain ⟨x3_4, ex3_4, h⟩ := bnd_e h
  refine gw_istore_n 4 [(3, J x3_4), (0, .ref o), (1, J a1), (2, J a2)] hC dX8_qWordOf_4 (by decide) ex3_4 rfl ?_
  refine gw_iload_n 5 0 hC dX8_qWordOf_5 rfl ?_
  refine gw_iload_n 6 2 hC dX8_qWordOf_6 rfl ?_
  refine gw_icmp_lt 7 27 hC dX8_qWordOf_7 (by decide) (fun c5 => ?_) (fun c5 => ?_)
  · replace h := if_t h c5
    refine gw_iconst 27 hC dX8_qWordOf_27 ?_
    exact gw_iret 28 hC dX8_qWordOf_28 h
  · replace h := if_f h c5
    refine gw_iload_n 10 0 hC dX8_qWordOf_10 rfl ?_
    refine gw_iload_n 11 3 hC dX8_qWordOf_11 rfl ?_
    refine gw_icmp_ge 12 27 hC dX8_qWordOf_12 (by decide) (fun c6 => ?_) (fun c6 => ?_)
    · replace h := if_t h c6
      refine gw_iconst 27 hC dX8_qWordOf_27 ?_
      exact gw_iret 28 hC dX8_qWordOf_28 h
    · replace h := if_f h c6
      refine gw_aload_n 15 1 hC dX8_qWordOf_15 rfl ?_
      refine gw_iload_n 16 0 hC dX8_qWordOf_16 rfl ?_
      obtain ⟨z7, ez7, h⟩ := opt_e h
      refine gw_callV (As := [J x3_4]) (rest := []) (st' := [J z7.1]) 17 1 hC (met_isAllowed ez7 l) (lw_V q2200 q2202 qs80 q161 q2203) (by decide +kernel) (by decide) (m_recv hC) rfl rfl (Nat.le_of_ble_eq_true rfl) dX8_qWordOf_17 rfl ?_
      refine gw_if_eq 20 27 hC dX8_qWordOf_20 (by decide) (fun c8 => ?_) (fun c8 => ?_)
      · replace h := if_t h c8
        refine gw_iconst 27 hC dX8_qWordOf_27 ?_
        exact gw_iret 28 hC dX8_qWordOf_28 h
      · replace h := if_f h c8
        refine gw_iload_n 23 0 hC dX8_qWordOf_23 rfl ?_
        refine gw_goto 24 28 hC dX8_qWordOf_24 (by decide) ?_
        exact gw_iret 28 hC dX8_qWordOf_28 h
/-! qAsksWord(I)V -/
noncomputable def m_qAsksWord (a1 : Int) (s0 : MS) : Option (Int × MS) :=
  if i32 a1 = 0 then
    Option.bind (m_asks 85 s0) fun z3 =>
    some (0, z3.2)
  else
  if i32 a1 = 1 then
    Option.bind (m_asks 86 s0) fun z5 =>
    some (0, z5.2)
  else
  if i32 a1 = 2 then
    Option.bind (m_asks 87 s0) fun z7 =>
    some (0, z7.2)
  else
  if i32 a1 = 3 then
    Option.bind (m_asks 88 s0) fun z9 =>
    some (0, z9.2)
  else
  if i32 a1 = 4 then
    Option.bind (m_asks 89 s0) fun z11 =>
    some (0, z11.2)
  else
  if i32 a1 = 5 then
    Option.bind (m_asks 90 s0) fun z13 =>
    some (0, z13.2)
  else
  if i32 a1 = 6 then
    Option.bind (m_asks 91 s0) fun z15 =>
    some (0, z15.2)
  else
  if i32 a1 = 7 then
    Option.bind (m_asks 92 s0) fun z17 =>
    some (0, z17.2)
  else
  if i32 a1 = 8 then
    Option.bind (m_asks 93 s0) fun z19 =>
    some (0, z19.2)
  else
  if i32 a1 = 9 then
    Option.bind (m_asks 94 s0) fun z21 =>
    some (0, z21.2)
  else
    Option.bind (m_asks 95 s0) fun z22 =>
    some (0, z22.2)
theorem met_qAsksWord {D : MD} {o : Nat} {a1 : Int} {s0 : MS} {res : Int × MS} (h : m_qAsksWord a1 s0 = some res) (l : Launch) : GMet l yX8_qAsksWord cX8_qAsksWord 2 none 5 (MRp D o) (MK D) (mAd o) [.ref o, J a1] s0 0 res := by
  refine GMet.of [(0, .ref o), (1, J a1)] (by decide) (MK_moved D) (Nat.le_of_ble_eq_true rfl) rfl ?_
  intro p e s m args below meth c hC
  have hC : GC p s m args meth c cX8_qAsksWord RX8 2 none (MK D) := hC
  unfold m_qAsksWord at h
  refine gw_iload_n 0 1 hC dX8_qAsksWord_0 rfl ?_
  by_cases c2 : i32 a1 = 0
  · replace h := if_t h c2
    refine gw_tableIn 1 56 0 hC dX8_qAsksWord_1 c2 (by decide) (by decide) rfl (by decide) ?_
    refine gw_aload_n 56 0 hC dX8_qAsksWord_56 rfl ?_
    refine gw_aload_n 57 0 hC dX8_qAsksWord_57 rfl ?_
    refine mg_85 58 hC dX8_qAsksWord_58 ?_
    obtain ⟨z3, ez3, h⟩ := opt_e h
    refine gw_callV (As := [.ref (o + mO 85)]) (rest := []) (st' := []) 61 1 hC (met_asks ez3 l) (lw_V q2093 q2095 qs56 q161 q2096) (by decide +kernel) (by decide) (m_recv hC) rfl rfl (Nat.le_of_ble_eq_true rfl) dX8_qAsksWord_61 rfl ?_
    refine gw_goto 64 174 hC dX8_qAsksWord_64 (by decide) ?_
    exact gw_vret 174 hC dX8_qAsksWord_174 h
  replace h := if_f h c2
  by_cases c4 : i32 a1 = 1
  · replace h := if_t h c4
    refine gw_tableIn 1 67 1 hC dX8_qAsksWord_1 c4 (by decide) (by decide) rfl (by decide) ?_
    refine gw_aload_n 67 0 hC dX8_qAsksWord_67 rfl ?_
    refine gw_aload_n 68 0 hC dX8_qAsksWord_68 rfl ?_
    refine mg_86 69 hC dX8_qAsksWord_69 ?_
    obtain ⟨z5, ez5, h⟩ := opt_e h
    refine gw_callV (As := [.ref (o + mO 86)]) (rest := []) (st' := []) 72 1 hC (met_asks ez5 l) (lw_V q2093 q2095 qs56 q161 q2096) (by decide +kernel) (by decide) (m_recv hC) rfl rfl (Nat.le_of_ble_eq_true rfl) dX8_qAsksWord_72 rfl ?_
    refine gw_goto 75 174 hC dX8_qAsksWord_75 (by decide) ?_
    exact gw_vret 174 hC dX8_qAsksWord_174 h
  replace h := if_f h c4
  by_cases c6 : i32 a1 = 2
  · replace h := if_t h c6
    refine gw_tableIn 1 78 2 hC dX8_qAsksWord_1 c6 (by decide) (by decide) rfl (by decide) ?_
    refine gw_aload_n 78 0 hC dX8_qAsksWord_78 rfl ?_
    refine gw_aload_n 79 0 hC dX8_qAsksWord_79 rfl ?_
    refine mg_87 80 hC dX8_qAsksWord_80 ?_
    obtain ⟨z7, ez7, h⟩ := opt_e h
    refine gw_callV (As := [.ref (o + mO 87)]) (rest := []) (st' := []) 83 1 hC (met_asks ez7 l) (lw_V q2093 q2095 qs56 q161 q2096) (by decide +kernel) (by decide) (m_recv hC) rfl rfl (Nat.le_of_ble_eq_true rfl) dX8_qAsksWord_83 rfl ?_
    refine gw_goto 86 174 hC dX8_qAsksWord_86 (by decide) ?_
    exact gw_vret 174 hC dX8_qAsksWord_174 h
  replace h := if_f h c6
  by_cases c8 : i32 a1 = 3
  · replace h := if_t h c8
    refine gw_tableIn 1 89 3 hC dX8_qAsksWord_1 c8 (by decide) (by decide) rfl (by decide) ?_
    refine gw_aload_n 89 0 hC dX8_qAsksWord_89 rfl ?_
    refine gw_aload_n 90 0 hC dX8_qAsksWord_90 rfl ?_
    refine mg_88 91 hC dX8_qAsksWord_91 ?_
    obtain ⟨z9, ez9, h⟩ := opt_e h
    refine gw_callV (As := [.ref (o + mO 88)]) (rest := []) (st' := []) 94 1 hC (met_asks ez9 l) (lw_V q2093 q2095 qs56 q161 q2096) (by decide +kernel) (by decide) (m_recv hC) rfl rfl (Nat.le_of_ble_eq_true rfl) dX8_qAsksWord_94 rfl ?_
    refine gw_goto 97 174 hC dX8_qAsksWord_97 (by decide) ?_
    exact gw_vret 174 hC dX8_qAsksWord_174 h
  replace h := if_f h c8
  by_cases c10 : i32 a1 = 4
  · replace h := if_t h c10
    refine gw_tableIn 1 100 4 hC dX8_qAsksWord_1 c10 (by decide) (by decide) rfl (by decide) ?_
    refine gw_aload_n 100 0 hC dX8_qAsksWord_100 rfl ?_
    refine gw_aload_n 101 0 hC dX8_qAsksWord_101 rfl ?_
    refine mg_89 102 hC dX8_qAsksWord_102 ?_
    obtain ⟨z11, ez11, h⟩ := opt_e h
    refine gw_callV (As := [.ref (o + mO 89)]) (rest := []) (st' := []) 105 1 hC (met_asks ez11 l) (lw_V q2093 q2095 qs56 q161 q2096) (by decide +kernel) (by decide) (m_recv hC) rfl rfl (Nat.le_of_ble_eq_true rfl) dX8_qAsksWord_105 rfl ?_
    refine gw_goto 108 174 hC dX8_qAsksWord_108 (by decide) ?_
    exact gw_vret 174 hC dX8_qAsksWord_174 h
  replace h := if_f h c10
  by_cases c12 : i32 a1 = 5
  · replace h := if_t h c12
    refine gw_tableIn 1 111 5 hC dX8_qAsksWord_1 c12 (by decide) (by decide) rfl (by decide) ?_
    refine gw_aload_n 111 0 hC dX8_qAsksWord_111 rfl ?_
    refine gw_aload_n 112 0 hC dX8_qAsksWord_112 rfl ?_
    refine mg_90 113 hC dX8_qAsksWord_113 ?_
    obtain ⟨z13, ez13, h⟩ := opt_e h
    refine gw_callV (As := [.ref (o + mO 90)]) (rest := []) (st' := []) 116 1 hC (met_asks ez13 l) (lw_V q2093 q2095 qs56 q161 q2096) (by decide +kernel) (by decide) (m_recv hC) rfl rfl (Nat.le_of_ble_eq_true rfl) dX8_qAsksWord_116 rfl ?_
    refine gw_goto 119 174 hC dX8_qAsksWord_119 (by decide) ?_
    exact gw_vret 174 hC dX8_qAsksWord_174 h
  replace h := if_f h c12
  by_cases c14 : i32 a1 = 6
  · replace h := if_t h c14
    refine gw_tableIn 1 122 6 hC dX8_qAsksWord_1 c14 (by decide) (by decide) rfl (by decide) ?_
    refine gw_aload_n 122 0 hC dX8_qAsksWord_122 rfl ?_
    refine gw_aload_n 123 0 hC dX8_qAsksWord_123 rfl ?_
    refine mg_91 124 hC dX8_qAsksWord_124 ?_
    obtain ⟨z15, ez15, h⟩ := opt_e h
    refine gw_callV (As := [.ref (o + mO 91)]) (rest := []) (st' := []) 127 1 hC (met_asks ez15 l) (lw_V q2093 q2095 qs56 q161 q2096) (by decide +kernel) (by decide) (m_recv hC) rfl rfl (Nat.le_of_ble_eq_true rfl) dX8_qAsksWord_127 rfl ?_
    refine gw_goto 130 174 hC dX8_qAsksWord_130 (by decide) ?_
    exact gw_vret 174 hC dX8_qAsksWord_174 h
  replace h := if_f h c14
  by_cases c16 : i32 a1 = 7
  · replace h := if_t h c16
    refine gw_tableIn 1 133 7 hC dX8_qAsksWord_1 c16 (by decide) (by decide) rfl (by decide) ?_
    refine gw_aload_n 133 0 hC dX8_qAsksWord_133 rfl ?_
    refine gw_aload_n 134 0 hC dX8_qAsksWord_134 rfl ?_
    refine mg_92 135 hC dX8_qAsksWord_135 ?_
    obtain ⟨z17, ez17, h⟩ := opt_e h
    refine gw_callV (As := [.ref (o + mO 92)]) (rest := []) (st' := []) 138 1 hC (met_asks ez17 l) (lw_V q2093 q2095 qs56 q161 q2096) (by decide +kernel) (by decide) (m_recv hC) rfl rfl (Nat.le_of_ble_eq_true rfl) dX8_qAsksWord_138 rfl ?_
    refine gw_goto 141 174 hC dX8_qAsksWord_141 (by decide) ?_
    exact gw_vret 174 hC dX8_qAsksWord_174 h
  replace h := if_f h c16
  by_cases c18 : i32 a1 = 8
  · replace h := if_t h c18
    refine gw_tableIn 1 144 8 hC dX8_qAsksWord_1 c18 (by decide) (by decide) rfl (by decide) ?_
    refine gw_aload_n 144 0 hC dX8_qAsksWord_144 rfl ?_
    refine gw_aload_n 145 0 hC dX8_qAsksWord_145 rfl ?_
    refine mg_93 146 hC dX8_qAsksWord_146 ?_
    obtain ⟨z19, ez19, h⟩ := opt_e h
    refine gw_callV (As := [.ref (o + mO 93)]) (rest := []) (st' := []) 149 1 hC (met_asks ez19 l) (lw_V q2093 q2095 qs56 q161 q2096) (by decide +kernel) (by decide) (m_recv hC) rfl rfl (Nat.le_of_ble_eq_true rfl) dX8_qAsksWord_149 rfl ?_
    refine gw_goto 152 174 hC dX8_qAsksWord_152 (by decide) ?_
    exact gw_vret 174 hC dX8_qAsksWord_174 h
  replace h := if_f h c18
  by_cases c20 : i32 a1 = 9
  · replace h := if_t h c20
    refine gw_tableIn 1 155 9 hC dX8_qAsksWord_1 c20 (by decide) (by decide) rfl (by decide) ?_
    refine gw_aload_n 155 0 hC dX8_qAsksWord_155 rfl ?_
    refine gw_aload_n 156 0 hC dX8_qAsksWord_156 rfl ?_
    refine mg_94 157 hC dX8_qAsksWord_157 ?_
    obtain ⟨z21, ez21, h⟩ := opt_e h
    refine gw_callV (As := [.ref (o + mO 94)]) (rest := []) (st' := []) 160 1 hC (met_asks ez21 l) (lw_V q2093 q2095 qs56 q161 q2096) (by decide +kernel) (by decide) (m_recv hC) rfl rfl (Nat.le_of_ble_eq_true rfl) dX8_qAsksWord_160 rfl ?_
    refine gw_goto 163 174 hC dX8_qAsksWord_163 (by decide) ?_
    exact gw_vret 174 hC dX8_qAsksWord_174 h
  replace h := if_f h c20
  refine gw_tableOut 1 166 hC dX8_qAsksWord_1 (by omega) (by decide) ?_
  refine gw_aload_n 166 0 hC dX8_qAsksWord_166 rfl ?_
  refine gw_aload_n 167 0 hC dX8_qAsksWord_167 rfl ?_
  refine mg_95 168 hC dX8_qAsksWord_168 ?_
  obtain ⟨z22, ez22, h⟩ := opt_e h
  refine gw_callV (As := [.ref (o + mO 95)]) (rest := []) (st' := []) 171 1 hC (met_asks ez22 l) (lw_V q2093 q2095 qs56 q161 q2096) (by decide +kernel) (by decide) (m_recv hC) rfl rfl (Nat.le_of_ble_eq_true rfl) dX8_qAsksWord_171 rfl ?_
  exact gw_vret 174 hC dX8_qAsksWord_174 h
/-! qDrops()V -/
noncomputable def m_qDrops (s0 : MS) : Option (Int × MS) :=
  bnd (up s0 99 0 ((s0 99 0) - 1)) fun s1 =>
  gd (ok 1700 (s1 99 0)) <|
  Option.bind (m_qCode (s1 98 (i32 (s1 99 0))) s1) fun z3 =>
  some (0, z3.2)
theorem met_qDrops {D : MD} {o : Nat} {s0 : MS} {res : Int × MS} (h : m_qDrops s0 = some res) (l : Launch) : GMet l yX8_qDrops cX8_qDrops 1 none 2 (MRp D o) (MK D) (mAd o) [.ref o] s0 0 res := by
  refine GMet.of [(0, .ref o)] (by decide) (MK_moved D) (Nat.le_of_ble_eq_true rfl) rfl ?_
  intro p e s m args below meth c hC
  have hC : GC p s m args meth c cX8_qDrops RX8 1 none (MK D) := hC
  unfold m_qDrops at h
  refine gw_aload_n 0 0 hC dX8_qDrops_0 rfl ?_
  refine gw_dup 1 hC dX8_qDrops_1 rfl ?_
  refine mg_99 2 hC dX8_qDrops_2 ?_
  refine gw_iconst 5 hC dX8_qDrops_5 ?_
  refine gw_isub 6 hC dX8_qDrops_6 ?_
  obtain ⟨s1, es1, h⟩ := bnd_e h
  refine mp_99 7 hC (MIn_self o) es1 dX8_qDrops_7 ?_
  refine gw_aload_n 10 0 hC dX8_qDrops_10 rfl ?_
  refine gw_aload_n 11 0 hC dX8_qDrops_11 rfl ?_
  refine mg_98 12 hC dX8_qDrops_12 ?_
  refine gw_aload_n 15 0 hC dX8_qDrops_15 rfl ?_
  refine mg_99 16 hC dX8_qDrops_16 ?_
  obtain ⟨g2, h⟩ := gd_e h
  refine m_iald 19 98 hC (by decide) rfl g2 dX8_qDrops_19 ?_
  obtain ⟨z3, ez3, h⟩ := opt_e h
  refine gw_callV (As := [J (s1 98 (i32 (s1 99 0)))]) (rest := []) (st' := []) 20 1 hC (met_qCode ez3 l) (lw_V q2180 q2182 qs75 q161 q2183) (by decide +kernel) (by decide) (m_recv hC) rfl rfl (Nat.le_of_ble_eq_true rfl) dX8_qDrops_20 rfl ?_
  exact gw_vret 23 hC dX8_qDrops_23 h
/-! qEndsPart()V -/
noncomputable def m_qEndsPart_L0 (k51 : MS → Option (Int × MS)) : Nat → MS → Option (Int × MS)
  | 0, _ => none
  | n + 1, s1 =>
    if i32 (s1 5 0) = 0 then
      if i32 (s1 99 0) ≤ i32 (s1 101 0) then
        k51 s1
      else
        gd (ok 1700 ((s1 99 0) - 1)) <|
        if i32 (s1 98 (i32 ((s1 99 0) - 1))) < i32 60 then
          k51 s1
        else
          bnd (up s1 100 0 ((s1 100 0) - 1)) fun s7 =>
          Option.bind (m_qDrops s7) fun z8 =>
          m_qEndsPart_L0 k51 n z8.2
    else
      k51 s1
noncomputable def m_qEndsPart (s0 : MS) : Option (Int × MS) :=
  m_qEndsPart_L0
    (fun (s9 : MS) =>
      some (0, s9))
    FU s0
theorem wm_qEndsPart_L0 {p : Program} {l : Launch} {e : Env} {s : State} {m : MethodId} {args : Array Value} {below : List Frame} {meth : Method} {c : Code} {D : MD} {o : Nat} {res : Int × MS} {k51 : MS → Option (Int × MS)} (hC : GC p s m args meth c cX8_qEndsPart RX8 1 none (MK D)) (hk51 : ∀ (s2 : MS), k51 s2 = some res → GW p l e (rmd 3) s m args below meth c 1 (mAd o) (MRp D o) (MK D) 0 res s2 51 [] []) : ∀ (n : Nat) (s1 : MS), m_qEndsPart_L0 k51 n s1 = some res → GW p l e (rmd 3) s m args below meth c 1 (mAd o) (MRp D o) (MK D) 0 res s1 0 [(0, .ref o)] [] := by
  intro n
  induction n with
  | zero =>
    intro s1 h
    cases h
  | succ n ih =>
    intro s1 h
    rw [m_qEndsPart_L0] at h
    refine gw_aload_n 0 0 hC dX8_qEndsPart_0 rfl ?_
    refine mg_5 1 hC dX8_qEndsPart_1 ?_
    refine gw_if_ne 4 51 hC dX8_qEndsPart_4 (by decide) (fun c3 => ?_) (fun c3 => ?_)
    · replace h := if_f h c3
      refine gw_sub [] rfl ?_
      exact hk51 _ h
    · replace h := if_t h c3
      refine gw_aload_n 7 0 hC dX8_qEndsPart_7 rfl ?_
      refine mg_99 8 hC dX8_qEndsPart_8 ?_
      refine gw_aload_n 11 0 hC dX8_qEndsPart_11 rfl ?_
      refine mg_101 12 hC dX8_qEndsPart_12 ?_
      refine gw_icmp_le 15 51 hC dX8_qEndsPart_15 (by decide) (fun c4 => ?_) (fun c4 => ?_)
      · replace h := if_t h c4
        refine gw_sub [] rfl ?_
        exact hk51 _ h
      · replace h := if_f h c4
        refine gw_aload_n 18 0 hC dX8_qEndsPart_18 rfl ?_
        refine mg_98 19 hC dX8_qEndsPart_19 ?_
        refine gw_aload_n 22 0 hC dX8_qEndsPart_22 rfl ?_
        refine mg_99 23 hC dX8_qEndsPart_23 ?_
        refine gw_iconst 26 hC dX8_qEndsPart_26 ?_
        refine gw_isub 27 hC dX8_qEndsPart_27 ?_
        obtain ⟨g5, h⟩ := gd_e h
        refine m_iald 28 98 hC (by decide) rfl g5 dX8_qEndsPart_28 ?_
        refine gw_bipush 29 hC dX8_qEndsPart_29 (by decide) ?_
        refine gw_icmp_lt 31 51 hC dX8_qEndsPart_31 (by decide) (fun c6 => ?_) (fun c6 => ?_)
        · replace h := if_t h c6
          refine gw_sub [] rfl ?_
          exact hk51 _ h
        · replace h := if_f h c6
          refine gw_aload_n 34 0 hC dX8_qEndsPart_34 rfl ?_
          refine gw_dup 35 hC dX8_qEndsPart_35 rfl ?_
          refine mg_100 36 hC dX8_qEndsPart_36 ?_
          refine gw_iconst 39 hC dX8_qEndsPart_39 ?_
          refine gw_isub 40 hC dX8_qEndsPart_40 ?_
          obtain ⟨s7, es7, h⟩ := bnd_e h
          refine mp_100 41 hC (MIn_self o) es7 dX8_qEndsPart_41 ?_
          refine gw_aload_n 44 0 hC dX8_qEndsPart_44 rfl ?_
          obtain ⟨z8, ez8, h⟩ := opt_e h
          refine gw_callV (As := []) (rest := []) (st' := []) 45 0 hC (met_qDrops ez8 l) (lw_V q2212 q2214 qs83 q161 q2215) (by decide +kernel) (by decide) (m_recv hC) rfl rfl (Nat.le_of_ble_eq_true rfl) dX8_qEndsPart_45 rfl ?_
          refine gw_goto 48 0 hC dX8_qEndsPart_48 (by decide) ?_
          refine gw_sub [0] rfl ?_
          exact ih _ h
theorem met_qEndsPart {D : MD} {o : Nat} {s0 : MS} {res : Int × MS} (h : m_qEndsPart s0 = some res) (l : Launch) : GMet l yX8_qEndsPart cX8_qEndsPart 1 none 3 (MRp D o) (MK D) (mAd o) [.ref o] s0 0 res := by
  refine GMet.of [(0, .ref o)] (by decide) (MK_moved D) (Nat.le_of_ble_eq_true rfl) rfl ?_
  intro p e s m args below meth c hC
  have hC : GC p s m args meth c cX8_qEndsPart RX8 1 none (MK D) := hC
  unfold m_qEndsPart at h
  refine gw_sub [0] rfl ?_
  refine wm_qEndsPart_L0 hC (fun s9 h => ?_) FU _ h
  · exact gw_vret 51 hC dX8_qEndsPart_51 h
/-! qPartTold()V -/
noncomputable def m_qPartTold_L2 (k186 : MS → Option (Int × MS)) : Nat → Int → MS → Option (Int × MS)
  | 0, _, _ => none
  | n + 1, x1_2, s3 =>
    if i32 x1_2 = 0 then
      k186 s3
    else
      if i32 (s3 5 0) = 0 then
        Option.bind (m_look s3) fun z7 =>
        bnd z7.1 fun x2_8 =>
        Option.bind (m_qWordOf 9 11 z7.2) fun z9 =>
        bnd z9.1 fun x3_10 =>
        bnd (fun (x1_11 : Int) (s12 : MS) =>
            m_qPartTold_L2 k186 n x1_11 s12) fun j13 =>
        if i32 x2_8 = i32 40 then
          Option.bind (m_qOpens 20 (z9.2 2 0) z9.2) fun z53 =>
          bnd (up z53.2 2 0 ((z53.2 2 0) + 1)) fun s54 =>
          j13 x1_2 s54
        else
          Option.bind (m_isHere 83 z9.2) fun z15 =>
          bnd (fun (x1_16 : Int) (s17 : MS) =>
              Option.bind (m_takes 83 s17) fun z18 =>
              bnd z18.1 fun x4_19 =>
              bnd (fun (x1_20 : Int) (x4_21 : Int) (s22 : MS) =>
                  Option.bind (m_look s22) fun z23 =>
                  bnd (fun (x1_24 : Int) (x4_25 : Int) (w26 : Int) (s27 : MS) =>
                      bnd (fun (x1_28 : Int) (s29 : MS) =>
                          Option.bind (m_asksSign 40 s29) fun z30 =>
                          j13 x1_28 z30.2) fun j31 =>
                      if i32 w26 = i32 (-1) then
                        j31 x1_24 s27
                      else
                        bnd (fun (x1_33 : Int) (x5_34 : Int) (w35 : Int) (s36 : MS) =>
                            Option.bind (m_qOpens w35 x5_34 s36) fun z37 =>
                            j31 x1_33 z37.2) fun j38 =>
                        if i32 x4_25 = 0 then
                          j38 x1_24 w26 22 s27
                        else
                          j38 x1_24 w26 21 s27) fun j40 =>
                  if i32 z23.1 = i32 40 then
                    j40 x1_20 x4_21 (z23.2 2 0) z23.2
                  else
                    j40 x1_20 x4_21 (-1) z23.2) fun j42 =>
              if i32 x4_19 = 0 then
                Option.bind (m_asks 84 z18.2) fun z44 =>
                j42 x1_16 x4_19 z44.2
              else
                j42 x1_16 x4_19 z18.2) fun j45 =>
          if i32 z15.1 = 0 then
            Option.bind (m_isHere 84 z15.2) fun z47 =>
            if i32 z47.1 = 0 then
              if i32 x3_10 = i32 (-1) then
                bnd 0 fun x1_50 =>
                j13 x1_50 z47.2
              else
                Option.bind (m_qOpens ((60 + x3_10) - 9) (z47.2 2 0) z47.2) fun z51 =>
                Option.bind (m_qAsksWord x3_10 z51.2) fun z52 =>
                j13 x1_2 z52.2
            else
              j45 x1_2 z47.2
          else
            j45 x1_2 z15.2
      else
        k186 s3
noncomputable def m_qPartTold (s0 : MS) : Option (Int × MS) :=
  bnd 1 fun x1_1 =>
  m_qPartTold_L2
    (fun (s55 : MS) =>
      if i32 (s55 5 0) = 0 then
        Option.bind (m_qWordOf 0 9 s55) fun z57 =>
        bnd z57.1 fun x2_58 =>
        bnd (fun (x2_59 : Int) (s60 : MS) =>
            bnd (fun (w61 : Int) (s62 : MS) =>
                Option.bind (m_qCode w61 s62) fun z63 =>
                Option.bind (m_qEndsPart z63.2) fun z64 =>
                some (0, z64.2)) fun j65 =>
            if i32 x2_59 = i32 (-1) then
              Option.bind (m_number 0 9999 s60) fun z67 =>
              j65 (1000 + z67.1) z67.2
            else
              j65 (40 + x2_59) s60) fun j68 =>
        if i32 x2_58 = i32 (-1) then
          j68 x2_58 z57.2
        else
          Option.bind (m_qAsksWord x2_58 z57.2) fun z70 =>
          j68 x2_58 z70.2
      else
        some (0, s55))
    FU x1_1 s0
theorem wm_qPartTold_L2 {p : Program} {l : Launch} {e : Env} {s : State} {m : MethodId} {args : Array Value} {below : List Frame} {meth : Method} {c : Code} {D : MD} {o : Nat} {res : Int × MS} {k186 : MS → Option (Int × MS)} (hC : GC p s m args meth c cX8_qPartTold RX8 6 none (MK D)) (hk186 : ∀ (s4 : MS), k186 s4 = some res → GW p l e (rmd 6) s m args below meth c 6 (mAd o) (MRp D o) (MK D) 0 res s4 186 [(0, .ref o)] []) : ∀ (n : Nat) (x1_2 : Int) (s3 : MS), m_qPartTold_L2 k186 n x1_2 s3 = some res → GW p l e (rmd 6) s m args below meth c 6 (mAd o) (MRp D o) (MK D) 0 res s3 2 [(0, .ref o), (1, J x1_2)] [] := by
  intro n
  induction n with
  | zero =>
    intro x1_2 s3 h
    cases h
  | succ n ih =>
    intro x1_2 s3 h
    rw [m_qPartTold_L2] at h
    refine gw_iload_n 2 1 hC dX8_qPartTold_2 rfl ?_
    refine gw_if_eq 3 186 hC dX8_qPartTold_3 (by decide) (fun c5 => ?_) (fun c5 => ?_)
    · replace h := if_t h c5
      refine gw_sub [0] rfl ?_
      exact hk186 _ h
    · replace h := if_f h c5
      refine gw_aload_n 6 0 hC dX8_qPartTold_6 rfl ?_
      refine mg_5 7 hC dX8_qPartTold_7 ?_
      refine gw_if_ne 10 186 hC dX8_qPartTold_10 (by decide) (fun c6 => ?_) (fun c6 => ?_)
      · replace h := if_f h c6
        refine gw_sub [0] rfl ?_
        exact hk186 _ h
      · replace h := if_t h c6
        refine gw_aload_n 13 0 hC dX8_qPartTold_13 rfl ?_
        obtain ⟨z7, ez7, h⟩ := opt_e h
        refine gw_callV (As := []) (rest := []) (st' := [J z7.1]) 14 0 hC (met_look ez7 l) (lw_V q2105 q2107 qs59 q161 q2108) (by decide +kernel) (by decide) (m_recv hC) rfl rfl (Nat.le_of_ble_eq_true rfl) dX8_qPartTold_14 rfl ?_
        obtain ⟨x2_8, ex2_8, h⟩ := bnd_e h
        refine gw_istore_n 17 [(2, J x2_8), (0, .ref o), (1, J x1_2)] hC dX8_qPartTold_17 (by decide) ex2_8 rfl ?_
        refine gw_aload_n 18 1 hC dX8_qPartTold_18 rfl ?_
        refine gw_bipush 19 hC dX8_qPartTold_19 (by decide) ?_
        refine gw_bipush 21 hC dX8_qPartTold_21 (by decide) ?_
        obtain ⟨z9, ez9, h⟩ := opt_e h
        refine gw_callV (As := [J 9, J 11]) (rest := []) (st' := [J z9.1]) 23 2 hC (met_qWordOf ez9 l) (lw_V q2192 q2194 qs78 q161 q2195) (by decide +kernel) (by decide) (m_recv hC) rfl rfl (Nat.le_of_ble_eq_true rfl) dX8_qPartTold_23 rfl ?_
        obtain ⟨x3_10, ex3_10, h⟩ := bnd_e h
        refine gw_istore_n 26 [(3, J x3_10), (2, J x2_8), (0, .ref o), (1, J x1_2)] hC dX8_qPartTold_26 (by decide) ex3_10 rfl ?_
        refine gw_iload_n 27 1 hC dX8_qPartTold_27 rfl ?_
        refine gw_bipush 28 hC dX8_qPartTold_28 (by decide) ?_
        obtain ⟨j13, ej13, h⟩ := bnd_e h
        have hj13 : ∀ (x1_11 : Int) (s12 : MS), j13 x1_11 s12 = some res → GW p l e (rmd 6) s m args below meth c 6 (mAd o) (MRp D o) (MK D) 0 res s12 183 [(0, .ref o), (1, J x1_11)] [] := by
          clear h
          intro x1_11 s12 h
          subst ej13
          refine gw_goto 183 2 hC dX8_qPartTold_183 (by decide) ?_
          refine gw_sub [0, 1] rfl ?_
          exact ih _ _ h
        refine gw_icmp_ne 30 56 hC dX8_qPartTold_30 (by decide) (fun c14 => ?_) (fun c14 => ?_)
        · replace h := if_f h c14
          refine gw_aload_n 56 2 hC dX8_qPartTold_56 rfl ?_
          refine gw_aload_n 57 2 hC dX8_qPartTold_57 rfl ?_
          refine mg_83 58 hC dX8_qPartTold_58 ?_
          obtain ⟨z15, ez15, h⟩ := opt_e h
          refine gw_callV (As := [.ref (o + mO 83)]) (rest := []) (st' := [J z15.1]) 61 1 hC (met_isHere ez15 l) (lw_V q2101 q2103 qs58 q161 q2104) (by decide +kernel) (by decide) (m_recv hC) rfl rfl (Nat.le_of_ble_eq_true rfl) dX8_qPartTold_61 rfl ?_
          obtain ⟨j45, ej45, h⟩ := bnd_e h
          have hj45 : ∀ (x1_16 : Int) (s17 : MS), j45 x1_16 s17 = some res → GW p l e (rmd 6) s m args below meth c 6 (mAd o) (MRp D o) (MK D) 0 res s17 78 [(0, .ref o), (1, J x1_16)] [] := by
            clear h
            intro x1_16 s17 h
            subst ej45
            refine gw_aload_n 78 0 hC dX8_qPartTold_78 rfl ?_
            refine gw_aload_n 79 0 hC dX8_qPartTold_79 rfl ?_
            refine mg_83 80 hC dX8_qPartTold_80 ?_
            obtain ⟨z18, ez18, h⟩ := opt_e h
            refine gw_callV (As := [.ref (o + mO 83)]) (rest := []) (st' := [J z18.1]) 83 1 hC (met_takes ez18 l) (lw_V q2097 q2099 qs57 q161 q2100) (by decide +kernel) (by decide) (m_recv hC) rfl rfl (Nat.le_of_ble_eq_true rfl) dX8_qPartTold_83 rfl ?_
            obtain ⟨x4_19, ex4_19, h⟩ := bnd_e h
            refine gw_istore 86 [(4, J x4_19), (0, .ref o), (1, J x1_16)] hC dX8_qPartTold_86 (by decide) ex4_19 rfl ?_
            refine gw_iload 88 0 hC dX8_qPartTold_88 rfl ?_
            obtain ⟨j42, ej42, h⟩ := bnd_e h
            have hj42 : ∀ (x1_20 : Int) (x4_21 : Int) (s22 : MS), j42 x1_20 x4_21 s22 = some res → GW p l e (rmd 6) s m args below meth c 6 (mAd o) (MRp D o) (MK D) 0 res s22 101 [(0, .ref o), (1, J x1_20), (4, J x4_21)] [] := by
              clear h
              intro x1_20 x4_21 s22 h
              subst ej42
              refine gw_aload_n 101 0 hC dX8_qPartTold_101 rfl ?_
              obtain ⟨z23, ez23, h⟩ := opt_e h
              refine gw_callV (As := []) (rest := []) (st' := [J z23.1]) 102 0 hC (met_look ez23 l) (lw_V q2105 q2107 qs59 q161 q2108) (by decide +kernel) (by decide) (m_recv hC) rfl rfl (Nat.le_of_ble_eq_true rfl) dX8_qPartTold_102 rfl ?_
              refine gw_bipush 105 hC dX8_qPartTold_105 (by decide) ?_
              obtain ⟨j40, ej40, h⟩ := bnd_e h
              have hj40 : ∀ (x1_24 : Int) (x4_25 : Int) (w26 : Int) (s27 : MS), j40 x1_24 x4_25 w26 s27 = some res → GW p l e (rmd 6) s m args below meth c 6 (mAd o) (MRp D o) (MK D) 0 res s27 118 [(0, .ref o), (1, J x1_24), (4, J x4_25)] [J w26] := by
                clear h
                intro x1_24 x4_25 w26 s27 h
                subst ej40
                refine gw_istore 118 [(5, J w26), (0, .ref o), (1, J x1_24), (4, J x4_25)] hC dX8_qPartTold_118 (by decide) rfl rfl ?_
                refine gw_iload 120 0 hC dX8_qPartTold_120 rfl ?_
                refine gw_iconst 122 hC dX8_qPartTold_122 ?_
                obtain ⟨j31, ej31, h⟩ := bnd_e h
                have hj31 : ∀ (x1_28 : Int) (s29 : MS), j31 x1_28 s29 = some res → GW p l e (rmd 6) s m args below meth c 6 (mAd o) (MRp D o) (MK D) 0 res s29 144 [(0, .ref o), (1, J x1_28)] [] := by
                  clear h
                  intro x1_28 s29 h
                  subst ej31
                  refine gw_aload_n 144 0 hC dX8_qPartTold_144 rfl ?_
                  refine gw_bipush 145 hC dX8_qPartTold_145 (by decide) ?_
                  obtain ⟨z30, ez30, h⟩ := opt_e h
                  refine gw_callV (As := [J 40]) (rest := []) (st' := []) 147 1 hC (met_asksSign ez30 l) (lw_V q2126 q2128 qs62 q161 q2129) (by decide +kernel) (by decide) (m_recv hC) rfl rfl (Nat.le_of_ble_eq_true rfl) dX8_qPartTold_147 rfl ?_
                  refine gw_goto 150 183 hC dX8_qPartTold_150 (by decide) ?_
                  refine gw_sub [0, 1] rfl ?_
                  exact hj13 _ _ h
                refine gw_icmp_eq 123 144 hC dX8_qPartTold_123 (by decide) (fun c32 => ?_) (fun c32 => ?_)
                · replace h := if_t h c32
                  refine gw_sub [1, 2] rfl ?_
                  exact hj31 _ _ h
                · replace h := if_f h c32
                  refine gw_aload_n 126 1 hC dX8_qPartTold_126 rfl ?_
                  refine gw_iload 127 3 hC dX8_qPartTold_127 rfl ?_
                  obtain ⟨j38, ej38, h⟩ := bnd_e h
                  have hj38 : ∀ (x1_33 : Int) (x5_34 : Int) (w35 : Int) (s36 : MS), j38 x1_33 x5_34 w35 s36 = some res → GW p l e (rmd 6) s m args below meth c 6 (mAd o) (MRp D o) (MK D) 0 res s36 139 [(0, .ref o), (1, J x1_33), (5, J x5_34)] [J w35, .ref o] := by
                    clear h
                    intro x1_33 x5_34 w35 s36 h
                    subst ej38
                    refine gw_iload 139 2 hC dX8_qPartTold_139 rfl ?_
                    obtain ⟨z37, ez37, h⟩ := opt_e h
                    refine gw_callV (As := [J w35, J x5_34]) (rest := []) (st' := []) 141 2 hC (met_qOpens ez37 l) (lw_V q2172 q2174 qs73 q161 q2175) (by decide +kernel) (by decide) (m_recv hC) rfl rfl (Nat.le_of_ble_eq_true rfl) dX8_qPartTold_141 rfl ?_
                    refine gw_sub [0, 1] rfl ?_
                    exact hj31 _ _ h
                  refine gw_if_eq 129 137 hC dX8_qPartTold_129 (by decide) (fun c39 => ?_) (fun c39 => ?_)
                  · replace h := if_t h c39
                    refine gw_bipush 137 hC dX8_qPartTold_137 (by decide) ?_
                    refine gw_sub [1, 2, 0] rfl ?_
                    exact hj38 _ _ _ _ h
                  · replace h := if_f h c39
                    refine gw_bipush 132 hC dX8_qPartTold_132 (by decide) ?_
                    refine gw_goto 134 139 hC dX8_qPartTold_134 (by decide) ?_
                    refine gw_sub [1, 2, 0] rfl ?_
                    exact hj38 _ _ _ _ h
              refine gw_icmp_ne 107 117 hC dX8_qPartTold_107 (by decide) (fun c41 => ?_) (fun c41 => ?_)
              · replace h := if_f h c41
                refine gw_iconst 117 hC dX8_qPartTold_117 ?_
                refine gw_sub [0, 1, 2] rfl ?_
                exact hj40 _ _ _ _ h
              · replace h := if_t h c41
                refine gw_aload_n 110 0 hC dX8_qPartTold_110 rfl ?_
                refine mg_2 111 hC dX8_qPartTold_111 ?_
                refine gw_goto 114 118 hC dX8_qPartTold_114 (by decide) ?_
                refine gw_sub [0, 1, 2] rfl ?_
                exact hj40 _ _ _ _ h
            refine gw_if_ne 90 101 hC dX8_qPartTold_90 (by decide) (fun c43 => ?_) (fun c43 => ?_)
            · replace h := if_f h c43
              refine gw_sub [1, 2, 0] rfl ?_
              exact hj42 _ _ _ h
            · replace h := if_t h c43
              refine gw_aload_n 93 1 hC dX8_qPartTold_93 rfl ?_
              refine gw_aload_n 94 1 hC dX8_qPartTold_94 rfl ?_
              refine mg_84 95 hC dX8_qPartTold_95 ?_
              obtain ⟨z44, ez44, h⟩ := opt_e h
              refine gw_callV (As := [.ref (o + mO 84)]) (rest := []) (st' := []) 98 1 hC (met_asks ez44 l) (lw_V q2093 q2095 qs56 q161 q2096) (by decide +kernel) (by decide) (m_recv hC) rfl rfl (Nat.le_of_ble_eq_true rfl) dX8_qPartTold_98 rfl ?_
              refine gw_sub [1, 2, 0] rfl ?_
              exact hj42 _ _ _ h
          refine gw_if_ne 64 78 hC dX8_qPartTold_64 (by decide) (fun c46 => ?_) (fun c46 => ?_)
          · replace h := if_f h c46
            refine gw_sub [2, 3] rfl ?_
            exact hj45 _ _ h
          · replace h := if_t h c46
            refine gw_aload_n 67 2 hC dX8_qPartTold_67 rfl ?_
            refine gw_aload_n 68 2 hC dX8_qPartTold_68 rfl ?_
            refine mg_84 69 hC dX8_qPartTold_69 ?_
            obtain ⟨z47, ez47, h⟩ := opt_e h
            refine gw_callV (As := [.ref (o + mO 84)]) (rest := []) (st' := [J z47.1]) 72 1 hC (met_isHere ez47 l) (lw_V q2101 q2103 qs58 q161 q2104) (by decide +kernel) (by decide) (m_recv hC) rfl rfl (Nat.le_of_ble_eq_true rfl) dX8_qPartTold_72 rfl ?_
            refine gw_if_eq 75 153 hC dX8_qPartTold_75 (by decide) (fun c48 => ?_) (fun c48 => ?_)
            · replace h := if_t h c48
              refine gw_iload_n 153 0 hC dX8_qPartTold_153 rfl ?_
              refine gw_iconst 154 hC dX8_qPartTold_154 ?_
              refine gw_icmp_eq 155 181 hC dX8_qPartTold_155 (by decide) (fun c49 => ?_) (fun c49 => ?_)
              · replace h := if_t h c49
                refine gw_iconst 181 hC dX8_qPartTold_181 ?_
                obtain ⟨x1_50, ex1_50, h⟩ := bnd_e h
                refine gw_istore_n 182 [(1, J x1_50), (3, J x3_10), (2, J x2_8), (0, .ref o)] hC dX8_qPartTold_182 (by decide) ex1_50 rfl ?_
                refine gw_sub [3, 0] rfl ?_
                exact hj13 _ _ h
              · replace h := if_f h c49
                refine gw_aload_n 158 2 hC dX8_qPartTold_158 rfl ?_
                refine gw_bipush 159 hC dX8_qPartTold_159 (by decide) ?_
                refine gw_iload_n 161 0 hC dX8_qPartTold_161 rfl ?_
                refine gw_iadd 162 hC dX8_qPartTold_162 ?_
                refine gw_bipush 163 hC dX8_qPartTold_163 (by decide) ?_
                refine gw_isub 165 hC dX8_qPartTold_165 ?_
                refine gw_aload_n 166 2 hC dX8_qPartTold_166 rfl ?_
                refine mg_2 167 hC dX8_qPartTold_167 ?_
                obtain ⟨z51, ez51, h⟩ := opt_e h
                refine gw_callV (As := [J ((60 + x3_10) - 9), J (z47.2 2 0)]) (rest := []) (st' := []) 170 2 hC (met_qOpens ez51 l) (lw_V q2172 q2174 qs73 q161 q2175) (by decide +kernel) (by decide) (m_recv hC) rfl rfl (Nat.le_of_ble_eq_true rfl) dX8_qPartTold_170 rfl ?_
                refine gw_aload_n 173 2 hC dX8_qPartTold_173 rfl ?_
                refine gw_iload_n 174 0 hC dX8_qPartTold_174 rfl ?_
                obtain ⟨z52, ez52, h⟩ := opt_e h
                refine gw_callV (As := [J x3_10]) (rest := []) (st' := []) 175 1 hC (met_qAsksWord ez52 l) (lw_V q2204 q2206 qs81 q161 q2207) (by decide +kernel) (by decide) (m_recv hC) rfl rfl (Nat.le_of_ble_eq_true rfl) dX8_qPartTold_175 rfl ?_
                refine gw_goto 178 183 hC dX8_qPartTold_178 (by decide) ?_
                refine gw_sub [2, 3] rfl ?_
                exact hj13 _ _ h
            · replace h := if_f h c48
              refine gw_sub [2, 3] rfl ?_
              exact hj45 _ _ h
        · replace h := if_t h c14
          refine gw_aload_n 33 2 hC dX8_qPartTold_33 rfl ?_
          refine gw_bipush 34 hC dX8_qPartTold_34 (by decide) ?_
          refine gw_aload_n 36 2 hC dX8_qPartTold_36 rfl ?_
          refine mg_2 37 hC dX8_qPartTold_37 ?_
          obtain ⟨z53, ez53, h⟩ := opt_e h
          refine gw_callV (As := [J 20, J (z9.2 2 0)]) (rest := []) (st' := []) 40 2 hC (met_qOpens ez53 l) (lw_V q2172 q2174 qs73 q161 q2175) (by decide +kernel) (by decide) (m_recv hC) rfl rfl (Nat.le_of_ble_eq_true rfl) dX8_qPartTold_40 rfl ?_
          refine gw_aload_n 43 2 hC dX8_qPartTold_43 rfl ?_
          refine gw_dup 44 hC dX8_qPartTold_44 rfl ?_
          refine mg_2 45 hC dX8_qPartTold_45 ?_
          refine gw_iconst 48 hC dX8_qPartTold_48 ?_
          refine gw_iadd 49 hC dX8_qPartTold_49 ?_
          obtain ⟨s54, es54, h⟩ := bnd_e h
          refine mp_2 50 hC (MIn_self o) es54 dX8_qPartTold_50 ?_
          refine gw_goto 53 183 hC dX8_qPartTold_53 (by decide) ?_
          refine gw_sub [2, 3] rfl ?_
          exact hj13 _ _ h
theorem met_qPartTold {D : MD} {o : Nat} {s0 : MS} {res : Int × MS} (h : m_qPartTold s0 = some res) (l : Launch) : GMet l yX8_qPartTold cX8_qPartTold 6 none 6 (MRp D o) (MK D) (mAd o) [.ref o] s0 0 res := by
  refine GMet.of [(0, .ref o)] (by decide) (MK_moved D) (Nat.le_of_ble_eq_true rfl) rfl ?_
  intro p e s m args below meth c hC
  have hC : GC p s m args meth c cX8_qPartTold RX8 6 none (MK D) := hC
  unfold m_qPartTold at h
  refine gw_iconst 0 hC dX8_qPartTold_0 ?_
  obtain ⟨x1_1, ex1_1, h⟩ := bnd_e h
  refine gw_istore_n 1 [(1, J x1_1), (0, .ref o)] hC dX8_qPartTold_1 (by decide) ex1_1 rfl ?_
  refine gw_sub [1, 0] rfl ?_
  refine wm_qPartTold_L2 hC (fun s55 h => ?_) FU _ _ h
  · refine gw_aload_n 186 0 hC dX8_qPartTold_186 rfl ?_
    refine mg_5 187 hC dX8_qPartTold_187 ?_
    refine gw_if_eq 190 194 hC dX8_qPartTold_190 (by decide) (fun c56 => ?_) (fun c56 => ?_)
    · replace h := if_t h c56
      refine gw_aload_n 194 0 hC dX8_qPartTold_194 rfl ?_
      refine gw_iconst 195 hC dX8_qPartTold_195 ?_
      refine gw_bipush 196 hC dX8_qPartTold_196 (by decide) ?_
      obtain ⟨z57, ez57, h⟩ := opt_e h
      refine gw_callV (As := [J 0, J 9]) (rest := []) (st' := [J z57.1]) 198 2 hC (met_qWordOf ez57 l) (lw_V q2192 q2194 qs78 q161 q2195) (by decide +kernel) (by decide) (m_recv hC) rfl rfl (Nat.le_of_ble_eq_true rfl) dX8_qPartTold_198 rfl ?_
      obtain ⟨x2_58, ex2_58, h⟩ := bnd_e h
      refine gw_istore_n 201 [(2, J x2_58), (0, .ref o)] hC dX8_qPartTold_201 (by decide) ex2_58 rfl ?_
      refine gw_iload_n 202 0 hC dX8_qPartTold_202 rfl ?_
      refine gw_iconst 203 hC dX8_qPartTold_203 ?_
      obtain ⟨j68, ej68, h⟩ := bnd_e h
      have hj68 : ∀ (x2_59 : Int) (s60 : MS), j68 x2_59 s60 = some res → GW p l e (rmd 6) s m args below meth c 6 (mAd o) (MRp D o) (MK D) 0 res s60 212 [(0, .ref o), (2, J x2_59)] [] := by
        clear h
        intro x2_59 s60 h
        subst ej68
        refine gw_aload_n 212 0 hC dX8_qPartTold_212 rfl ?_
        refine gw_iload_n 213 1 hC dX8_qPartTold_213 rfl ?_
        refine gw_iconst 214 hC dX8_qPartTold_214 ?_
        obtain ⟨j65, ej65, h⟩ := bnd_e h
        have hj65 : ∀ (w61 : Int) (s62 : MS), j65 w61 s62 = some res → GW p l e (rmd 6) s m args below meth c 6 (mAd o) (MRp D o) (MK D) 0 res s62 237 [(0, .ref o)] [J w61, .ref o] := by
          clear h
          intro w61 s62 h
          subst ej65
          obtain ⟨z63, ez63, h⟩ := opt_e h
          refine gw_callV (As := [J w61]) (rest := []) (st' := []) 237 1 hC (met_qCode ez63 l) (lw_V q2180 q2182 qs75 q161 q2183) (by decide +kernel) (by decide) (m_recv hC) rfl rfl (Nat.le_of_ble_eq_true rfl) dX8_qPartTold_237 rfl ?_
          refine gw_aload_n 240 0 hC dX8_qPartTold_240 rfl ?_
          obtain ⟨z64, ez64, h⟩ := opt_e h
          refine gw_callV (As := []) (rest := []) (st' := []) 241 0 hC (met_qEndsPart ez64 l) (lw_V q2208 q2210 qs82 q161 q2211) (by decide +kernel) (by decide) (m_recv hC) rfl rfl (Nat.le_of_ble_eq_true rfl) dX8_qPartTold_241 rfl ?_
          exact gw_vret 244 hC dX8_qPartTold_244 h
        refine gw_icmp_eq 215 225 hC dX8_qPartTold_215 (by decide) (fun c66 => ?_) (fun c66 => ?_)
        · replace h := if_t h c66
          refine gw_sipush 225 hC dX8_qPartTold_225 (by decide) ?_
          refine gw_aload_n 228 0 hC dX8_qPartTold_228 rfl ?_
          refine gw_iconst 229 hC dX8_qPartTold_229 ?_
          refine gw_sipush 230 hC dX8_qPartTold_230 (by decide) ?_
          obtain ⟨z67, ez67, h⟩ := opt_e h
          refine gw_callV (As := [J 0, J 9999]) (rest := [J 1000, .ref o]) (st' := [J z67.1, J 1000, .ref o]) 233 2 hC (met_number ez67 l) (lw_V q2116 q2118 qs61 q161 q2119) (by decide +kernel) (by decide) (m_recv hC) rfl rfl (Nat.le_of_ble_eq_true rfl) dX8_qPartTold_233 rfl ?_
          refine gw_iadd 236 hC dX8_qPartTold_236 ?_
          refine gw_sub [0] rfl ?_
          exact hj65 _ _ h
        · replace h := if_f h c66
          refine gw_bipush 218 hC dX8_qPartTold_218 (by decide) ?_
          refine gw_iload_n 220 1 hC dX8_qPartTold_220 rfl ?_
          refine gw_iadd 221 hC dX8_qPartTold_221 ?_
          refine gw_goto 222 237 hC dX8_qPartTold_222 (by decide) ?_
          refine gw_sub [0] rfl ?_
          exact hj65 _ _ h
      refine gw_icmp_eq 204 212 hC dX8_qPartTold_204 (by decide) (fun c69 => ?_) (fun c69 => ?_)
      · replace h := if_t h c69
        refine gw_sub [1, 0] rfl ?_
        exact hj68 _ _ h
      · replace h := if_f h c69
        refine gw_aload_n 207 1 hC dX8_qPartTold_207 rfl ?_
        refine gw_iload_n 208 0 hC dX8_qPartTold_208 rfl ?_
        obtain ⟨z70, ez70, h⟩ := opt_e h
        refine gw_callV (As := [J x2_58]) (rest := []) (st' := []) 209 1 hC (met_qAsksWord ez70 l) (lw_V q2204 q2206 qs81 q161 q2207) (by decide +kernel) (by decide) (m_recv hC) rfl rfl (Nat.le_of_ble_eq_true rfl) dX8_qPartTold_209 rfl ?_
        refine gw_sub [1, 0] rfl ?_
        exact hj68 _ _ h
    · replace h := if_f h c56
      exact gw_vret 193 hC dX8_qPartTold_193 h
/-! qIsBracket(I)Z -/
noncomputable def m_qIsBracket (a1 : Int) (s0 : MS) : Option (Int × MS) :=
  if i32 a1 < i32 20 then
    some (0, s0)
  else
    if i32 24 < i32 a1 then
      some (0, s0)
    else
      some (1, s0)
theorem met_qIsBracket {D : MD} {o : Nat} {a1 : Int} {s0 : MS} {res : Int × MS} (h : m_qIsBracket a1 s0 = some res) (l : Launch) : GMet l yX8_qIsBracket cX8_qIsBracket 1 (some .boolean) 1 (MRp D o) (MK D) (mAd o) [J a1] s0 1 res := by
  refine GMet.of [(0, J a1)] (by decide) (MK_moved D) (Nat.le_of_ble_eq_true rfl) rfl ?_
  intro p e s m args below meth c hC
  have hC : GC p s m args meth c cX8_qIsBracket RX8 1 (some .boolean) (MK D) := hC
  unfold m_qIsBracket at h
  refine gw_iload_n 0 0 hC dX8_qIsBracket_0 rfl ?_
  refine gw_bipush 1 hC dX8_qIsBracket_1 (by decide) ?_
  refine gw_icmp_lt 3 16 hC dX8_qIsBracket_3 (by decide) (fun c2 => ?_) (fun c2 => ?_)
  · replace h := if_t h c2
    refine gw_iconst 16 hC dX8_qIsBracket_16 ?_
    exact gw_zret 17 hC dX8_qIsBracket_17 (by decide) h
  · replace h := if_f h c2
    refine gw_iload_n 6 0 hC dX8_qIsBracket_6 rfl ?_
    refine gw_bipush 7 hC dX8_qIsBracket_7 (by decide) ?_
    refine gw_icmp_gt 9 16 hC dX8_qIsBracket_9 (by decide) (fun c3 => ?_) (fun c3 => ?_)
    · replace h := if_t h c3
      refine gw_iconst 16 hC dX8_qIsBracket_16 ?_
      exact gw_zret 17 hC dX8_qIsBracket_17 (by decide) h
    · replace h := if_f h c3
      refine gw_iconst 12 hC dX8_qIsBracket_12 ?_
      refine gw_goto 13 17 hC dX8_qIsBracket_13 (by decide) ?_
      exact gw_zret 17 hC dX8_qIsBracket_17 (by decide) h
/-! qBracket()I -/
noncomputable def m_qBracket_L7 (k33 : Int → MS → Option (Int × MS)) : Nat → Int → MS → Option (Int × MS)
  | 0, _, _ => none
  | n + 1, x1_2, s3 =>
    if i32 x1_2 < i32 (s3 101 0) then
      k33 x1_2 s3
    else
      gd (ok 1700 x1_2) <|
      Option.bind (m_qIsBracket (s3 98 (i32 x1_2)) s3) fun z8 =>
      if i32 z8.1 = 0 then
        bnd (x1_2 + (-1)) fun x1_10 =>
        m_qBracket_L7 k33 n x1_10 z8.2
      else
        k33 x1_2 z8.2
noncomputable def m_qBracket (s0 : MS) : Option (Int × MS) :=
  bnd ((s0 99 0) - 1) fun x1_1 =>
  m_qBracket_L7
    (fun (x1_11 : Int) (s12 : MS) =>
      if i32 x1_11 < i32 (s12 101 0) then
        some ((-1), s12)
      else
        gd (ok 1700 x1_11) <|
        some ((s12 98 (i32 x1_11)), s12))
    FU x1_1 s0
theorem wm_qBracket_L7 {p : Program} {l : Launch} {e : Env} {s : State} {m : MethodId} {args : Array Value} {below : List Frame} {meth : Method} {c : Code} {D : MD} {o : Nat} {res : Int × MS} {k33 : Int → MS → Option (Int × MS)} (hC : GC p s m args meth c cX8_qBracket RX8 2 (some .int) (MK D)) (hk33 : ∀ (x1_4 : Int) (s5 : MS), k33 x1_4 s5 = some res → GW p l e (rmd 2) s m args below meth c 2 (mAd o) (MRp D o) (MK D) 1 res s5 33 [(0, .ref o), (1, J x1_4)] []) : ∀ (n : Nat) (x1_2 : Int) (s3 : MS), m_qBracket_L7 k33 n x1_2 s3 = some res → GW p l e (rmd 2) s m args below meth c 2 (mAd o) (MRp D o) (MK D) 1 res s3 7 [(0, .ref o), (1, J x1_2)] [] := by
  intro n
  induction n with
  | zero =>
    intro x1_2 s3 h
    cases h
  | succ n ih =>
    intro x1_2 s3 h
    rw [m_qBracket_L7] at h
    refine gw_iload_n 7 1 hC dX8_qBracket_7 rfl ?_
    refine gw_aload_n 8 0 hC dX8_qBracket_8 rfl ?_
    refine mg_101 9 hC dX8_qBracket_9 ?_
    refine gw_icmp_lt 12 33 hC dX8_qBracket_12 (by decide) (fun c6 => ?_) (fun c6 => ?_)
    · replace h := if_t h c6
      refine gw_sub [0, 1] rfl ?_
      exact hk33 _ _ h
    · replace h := if_f h c6
      refine gw_aload_n 15 0 hC dX8_qBracket_15 rfl ?_
      refine mg_98 16 hC dX8_qBracket_16 ?_
      refine gw_iload_n 19 1 hC dX8_qBracket_19 rfl ?_
      obtain ⟨g7, h⟩ := gd_e h
      refine m_iald 20 98 hC (by decide) rfl g7 dX8_qBracket_20 ?_
      obtain ⟨z8, ez8, h⟩ := opt_e h
      refine gw_callS (As := [J (s3 98 (i32 x1_2))]) (rest := []) (st' := [J z8.1]) 21 1 hC (met_qIsBracket ez8 l) (lw_S q2224 q2225 q161 q2226) (by decide +kernel) (by decide) rfl rfl (Nat.le_of_ble_eq_true rfl) dX8_qBracket_21 rfl ?_
      refine gw_if_ne 24 33 hC dX8_qBracket_24 (by decide) (fun c9 => ?_) (fun c9 => ?_)
      · replace h := if_f h c9
        refine gw_sub [0, 1] rfl ?_
        exact hk33 _ _ h
      · replace h := if_t h c9
        obtain ⟨x1_10, ex1_10, h⟩ := bnd_e h
        refine gw_iinc 27 1 [(1, J x1_10), (0, .ref o)] hC dX8_qBracket_27 rfl ex1_10 (by decide) rfl ?_
        refine gw_goto 30 7 hC dX8_qBracket_30 (by decide) ?_
        refine gw_sub [1, 0] rfl ?_
        exact ih _ _ h
theorem met_qBracket {D : MD} {o : Nat} {s0 : MS} {res : Int × MS} (h : m_qBracket s0 = some res) (l : Launch) : GMet l yX8_qBracket cX8_qBracket 2 (some .int) 2 (MRp D o) (MK D) (mAd o) [.ref o] s0 1 res := by
  refine GMet.of [(0, .ref o)] (by decide) (MK_moved D) (Nat.le_of_ble_eq_true rfl) rfl ?_
  intro p e s m args below meth c hC
  have hC : GC p s m args meth c cX8_qBracket RX8 2 (some .int) (MK D) := hC
  unfold m_qBracket at h
  refine gw_aload_n 0 0 hC dX8_qBracket_0 rfl ?_
  refine mg_99 1 hC dX8_qBracket_1 ?_
  refine gw_iconst 4 hC dX8_qBracket_4 ?_
  refine gw_isub 5 hC dX8_qBracket_5 ?_
  obtain ⟨x1_1, ex1_1, h⟩ := bnd_e h
  refine gw_istore_n 6 [(1, J x1_1), (0, .ref o)] hC dX8_qBracket_6 (by decide) ex1_1 rfl ?_
  refine gw_sub [1, 0] rfl ?_
  refine wm_qBracket_L7 hC (fun x1_11 s12 h => ?_) FU _ _ h
  · refine gw_iload_n 33 1 hC dX8_qBracket_33 rfl ?_
    refine gw_aload_n 34 0 hC dX8_qBracket_34 rfl ?_
    refine mg_101 35 hC dX8_qBracket_35 ?_
    refine gw_icmp_lt 38 50 hC dX8_qBracket_38 (by decide) (fun c13 => ?_) (fun c13 => ?_)
    · replace h := if_t h c13
      refine gw_iconst 50 hC dX8_qBracket_50 ?_
      exact gw_iret 51 hC dX8_qBracket_51 h
    · replace h := if_f h c13
      refine gw_aload_n 41 0 hC dX8_qBracket_41 rfl ?_
      refine mg_98 42 hC dX8_qBracket_42 ?_
      refine gw_iload_n 45 1 hC dX8_qBracket_45 rfl ?_
      obtain ⟨g14, h⟩ := gd_e h
      refine m_iald 46 98 hC (by decide) rfl g14 dX8_qBracket_46 ?_
      refine gw_goto 47 51 hC dX8_qBracket_47 (by decide) ?_
      exact gw_iret 51 hC dX8_qBracket_51 h
/-! qDropsToBracket()V -/
noncomputable def m_qDropsToBracket_L0 (k35 : MS → Option (Int × MS)) : Nat → MS → Option (Int × MS)
  | 0, _ => none
  | n + 1, s1 =>
    if i32 (s1 99 0) ≤ i32 (s1 101 0) then
      k35 s1
    else
      gd (ok 1700 ((s1 99 0) - 1)) <|
      Option.bind (m_qIsBracket (s1 98 (i32 ((s1 99 0) - 1))) s1) fun z5 =>
      if i32 z5.1 = 0 then
        Option.bind (m_qDrops z5.2) fun z7 =>
        m_qDropsToBracket_L0 k35 n z7.2
      else
        k35 z5.2
noncomputable def m_qDropsToBracket (s0 : MS) : Option (Int × MS) :=
  m_qDropsToBracket_L0
    (fun (s8 : MS) =>
      some (0, s8))
    FU s0
theorem wm_qDropsToBracket_L0 {p : Program} {l : Launch} {e : Env} {s : State} {m : MethodId} {args : Array Value} {below : List Frame} {meth : Method} {c : Code} {D : MD} {o : Nat} {res : Int × MS} {k35 : MS → Option (Int × MS)} (hC : GC p s m args meth c cX8_qDropsToBracket RX8 1 none (MK D)) (hk35 : ∀ (s2 : MS), k35 s2 = some res → GW p l e (rmd 3) s m args below meth c 1 (mAd o) (MRp D o) (MK D) 0 res s2 35 [] []) : ∀ (n : Nat) (s1 : MS), m_qDropsToBracket_L0 k35 n s1 = some res → GW p l e (rmd 3) s m args below meth c 1 (mAd o) (MRp D o) (MK D) 0 res s1 0 [(0, .ref o)] [] := by
  intro n
  induction n with
  | zero =>
    intro s1 h
    cases h
  | succ n ih =>
    intro s1 h
    rw [m_qDropsToBracket_L0] at h
    refine gw_aload_n 0 0 hC dX8_qDropsToBracket_0 rfl ?_
    refine mg_99 1 hC dX8_qDropsToBracket_1 ?_
    refine gw_aload_n 4 0 hC dX8_qDropsToBracket_4 rfl ?_
    refine mg_101 5 hC dX8_qDropsToBracket_5 ?_
    refine gw_icmp_le 8 35 hC dX8_qDropsToBracket_8 (by decide) (fun c3 => ?_) (fun c3 => ?_)
    · replace h := if_t h c3
      refine gw_sub [] rfl ?_
      exact hk35 _ h
    · replace h := if_f h c3
      refine gw_aload_n 11 0 hC dX8_qDropsToBracket_11 rfl ?_
      refine mg_98 12 hC dX8_qDropsToBracket_12 ?_
      refine gw_aload_n 15 0 hC dX8_qDropsToBracket_15 rfl ?_
      refine mg_99 16 hC dX8_qDropsToBracket_16 ?_
      refine gw_iconst 19 hC dX8_qDropsToBracket_19 ?_
      refine gw_isub 20 hC dX8_qDropsToBracket_20 ?_
      obtain ⟨g4, h⟩ := gd_e h
      refine m_iald 21 98 hC (by decide) rfl g4 dX8_qDropsToBracket_21 ?_
      obtain ⟨z5, ez5, h⟩ := opt_e h
      refine gw_callS (As := [J (s1 98 (i32 ((s1 99 0) - 1)))]) (rest := []) (st' := [J z5.1]) 22 1 hC (met_qIsBracket ez5 l) (lw_S q2224 q2225 q161 q2226) (by decide +kernel) (by decide) rfl rfl (Nat.le_of_ble_eq_true rfl) dX8_qDropsToBracket_22 rfl ?_
      refine gw_if_ne 25 35 hC dX8_qDropsToBracket_25 (by decide) (fun c6 => ?_) (fun c6 => ?_)
      · replace h := if_f h c6
        refine gw_sub [] rfl ?_
        exact hk35 _ h
      · replace h := if_t h c6
        refine gw_aload_n 28 0 hC dX8_qDropsToBracket_28 rfl ?_
        obtain ⟨z7, ez7, h⟩ := opt_e h
        refine gw_callV (As := []) (rest := []) (st' := []) 29 0 hC (met_qDrops ez7 l) (lw_V q2212 q2214 qs83 q161 q2215) (by decide +kernel) (by decide) (m_recv hC) rfl rfl (Nat.le_of_ble_eq_true rfl) dX8_qDropsToBracket_29 rfl ?_
        refine gw_goto 32 0 hC dX8_qDropsToBracket_32 (by decide) ?_
        refine gw_sub [0] rfl ?_
        exact ih _ h
theorem met_qDropsToBracket {D : MD} {o : Nat} {s0 : MS} {res : Int × MS} (h : m_qDropsToBracket s0 = some res) (l : Launch) : GMet l yX8_qDropsToBracket cX8_qDropsToBracket 1 none 3 (MRp D o) (MK D) (mAd o) [.ref o] s0 0 res := by
  refine GMet.of [(0, .ref o)] (by decide) (MK_moved D) (Nat.le_of_ble_eq_true rfl) rfl ?_
  intro p e s m args below meth c hC
  have hC : GC p s m args meth c cX8_qDropsToBracket RX8 1 none (MK D) := hC
  unfold m_qDropsToBracket at h
  refine gw_sub [0] rfl ?_
  refine wm_qDropsToBracket_L0 hC (fun s8 h => ?_) FU _ h
  · exact gw_vret 35 hC dX8_qDropsToBracket_35 h
/-! qIsOn(I)Z -/
noncomputable def m_qIsOn (a1 : Int) (s0 : MS) : Option (Int × MS) :=
  if i32 (s0 99 0) ≤ 0 then
    some (0, s0)
  else
    gd (ok 1700 ((s0 99 0) - 1)) <|
    if i32 (s0 98 (i32 ((s0 99 0) - 1))) = i32 a1 then
      some (1, s0)
    else
      some (0, s0)
theorem met_qIsOn {D : MD} {o : Nat} {a1 : Int} {s0 : MS} {res : Int × MS} (h : m_qIsOn a1 s0 = some res) (l : Launch) : GMet l yX8_qIsOn cX8_qIsOn 2 (some .boolean) 1 (MRp D o) (MK D) (mAd o) [.ref o, J a1] s0 1 res := by
  refine GMet.of [(0, .ref o), (1, J a1)] (by decide) (MK_moved D) (Nat.le_of_ble_eq_true rfl) rfl ?_
  intro p e s m args below meth c hC
  have hC : GC p s m args meth c cX8_qIsOn RX8 2 (some .boolean) (MK D) := hC
  unfold m_qIsOn at h
  refine gw_aload_n 0 0 hC dX8_qIsOn_0 rfl ?_
  refine mg_99 1 hC dX8_qIsOn_1 ?_
  refine gw_if_le 4 26 hC dX8_qIsOn_4 (by decide) (fun c2 => ?_) (fun c2 => ?_)
  · replace h := if_t h c2
    refine gw_iconst 26 hC dX8_qIsOn_26 ?_
    exact gw_zret 27 hC dX8_qIsOn_27 (by decide) h
  · replace h := if_f h c2
    refine gw_aload_n 7 0 hC dX8_qIsOn_7 rfl ?_
    refine mg_98 8 hC dX8_qIsOn_8 ?_
    refine gw_aload_n 11 0 hC dX8_qIsOn_11 rfl ?_
    refine mg_99 12 hC dX8_qIsOn_12 ?_
    refine gw_iconst 15 hC dX8_qIsOn_15 ?_
    refine gw_isub 16 hC dX8_qIsOn_16 ?_
    obtain ⟨g3, h⟩ := gd_e h
    refine m_iald 17 98 hC (by decide) rfl g3 dX8_qIsOn_17 ?_
    refine gw_iload_n 18 1 hC dX8_qIsOn_18 rfl ?_
    refine gw_icmp_ne 19 26 hC dX8_qIsOn_19 (by decide) (fun c4 => ?_) (fun c4 => ?_)
    · replace h := if_f h c4
      refine gw_iconst 26 hC dX8_qIsOn_26 ?_
      exact gw_zret 27 hC dX8_qIsOn_27 (by decide) h
    · replace h := if_t h c4
      refine gw_iconst 22 hC dX8_qIsOn_22 ?_
      refine gw_goto 23 27 hC dX8_qIsOn_23 (by decide) ?_
      exact gw_zret 27 hC dX8_qIsOn_27 (by decide) h
/-! qGoesOn()Z -/
noncomputable def m_qGoesOn_L0 (k122 : MS → Option (Int × MS)) : Nat → MS → Option (Int × MS)
  | 0, _ => none
  | n + 1, s1 =>
    if i32 (s1 5 0) = 0 then
      Option.bind (m_look s1) fun z4 =>
      if i32 z4.1 = i32 41 then
        Option.bind (m_qBracket z4.2) fun z6 =>
        bnd (fun (s7 : MS) =>
            bnd (up s7 2 0 ((s7 2 0) + 1)) fun s8 =>
            Option.bind (m_qDropsToBracket s8) fun z9 =>
            bnd (up z9.2 99 0 ((z9.2 99 0) - 1)) fun s10 =>
            bnd (up s10 100 0 ((s10 100 0) - 1)) fun s11 =>
            gd (ok 1700 (s11 99 0)) <|
            bnd (fun (s13 : MS) =>
                Option.bind (m_qEndsPart s13) fun z14 =>
                m_qGoesOn_L0 k122 n z14.2) fun j15 =>
            if i32 (s11 98 (i32 (s11 99 0))) = i32 20 then
              j15 s11
            else
              gd (ok 1700 (s11 99 0)) <|
              bnd (fun (w18 : Int) (s19 : MS) =>
                  Option.bind (m_qCode w18 s19) fun z20 =>
                  j15 z20.2) fun j21 =>
              if i32 (s11 98 (i32 (s11 99 0))) = i32 23 then
                j21 5 s11
              else
                j21 6 s11) fun j23 =>
        if i32 z6.1 = i32 20 then
          j23 z6.2
        else
          Option.bind (m_qBracket z6.2) fun z25 =>
          if i32 z25.1 = i32 23 then
            j23 z25.2
          else
            Option.bind (m_qBracket z25.2) fun z27 =>
            if i32 z27.1 = i32 24 then
              j23 z27.2
            else
              k122 z27.2
      else
        k122 z4.2
    else
      k122 s1
noncomputable def m_qGoesOn_L162 (k185 : Int → MS → Option (Int × MS)) : Nat → Int → MS → Option (Int × MS)
  | 0, _, _ => none
  | n + 1, x1_35, s36 =>
    Option.bind (m_qIsOn 3 s36) fun z39 =>
    bnd (fun (x1_40 : Int) (s41 : MS) =>
        Option.bind (m_qDrops s41) fun z42 =>
        m_qGoesOn_L162 k185 n x1_40 z42.2) fun j43 =>
    if i32 z39.1 = 0 then
      Option.bind (m_qIsOn 4 z39.2) fun z45 =>
      if i32 z45.1 = 0 then
        k185 x1_35 z45.2
      else
        j43 x1_35 z45.2
    else
      j43 x1_35 z39.2
noncomputable def m_qGoesOn_L247 (k286 : Int → MS → Option (Int × MS)) : Nat → Int → MS → Option (Int × MS)
  | 0, _, _ => none
  | n + 1, x1_63, s64 =>
    Option.bind (m_qIsOn 3 s64) fun z67 =>
    bnd (fun (x1_68 : Int) (s69 : MS) =>
        Option.bind (m_qDrops s69) fun z70 =>
        m_qGoesOn_L247 k286 n x1_68 z70.2) fun j71 =>
    if i32 z67.1 = 0 then
      Option.bind (m_qIsOn 4 z67.2) fun z73 =>
      if i32 z73.1 = 0 then
        Option.bind (m_qIsOn 1 z73.2) fun z75 =>
        if i32 z75.1 = 0 then
          Option.bind (m_qIsOn 2 z75.2) fun z77 =>
          if i32 z77.1 = 0 then
            k286 x1_63 z77.2
          else
            j71 x1_63 z77.2
        else
          j71 x1_63 z75.2
      else
        j71 x1_63 z73.2
    else
      j71 x1_63 z67.2
noncomputable def m_qGoesOn (s0 : MS) : Option (Int × MS) :=
  m_qGoesOn_L0
    (fun (s29 : MS) =>
      Option.bind (m_takesSign 42 s29) fun z30 =>
      bnd (fun (s31 : MS) =>
          gd (ok 1600 ((s31 2 0) - 1)) <|
          bnd (fun (w33 : Int) (s34 : MS) =>
              m_qGoesOn_L162
                (fun (x1_47 : Int) (s48 : MS) =>
                  gd (ok 1700 (s48 99 0)) <|
                  bnd (up s48 98 (i32 (s48 99 0)) x1_47) fun s50 =>
                  bnd (up s50 99 0 ((s50 99 0) + 1)) fun s51 =>
                  some (1, s51))
                FU w33 s34) fun j52 =>
          if i32 (s31 0 (i32 ((s31 2 0) - 1))) = i32 42 then
            j52 3 s31
          else
            j52 4 s31) fun j54 =>
      if i32 z30.1 = 0 then
        Option.bind (m_takesSign 47 z30.2) fun z56 =>
        if i32 z56.1 = 0 then
          Option.bind (m_takesSign 43 z56.2) fun z58 =>
          bnd (fun (s59 : MS) =>
              gd (ok 1600 ((s59 2 0) - 1)) <|
              bnd (fun (w61 : Int) (s62 : MS) =>
                  m_qGoesOn_L247
                    (fun (x1_79 : Int) (s80 : MS) =>
                      gd (ok 1700 (s80 99 0)) <|
                      bnd (up s80 98 (i32 (s80 99 0)) x1_79) fun s82 =>
                      bnd (up s82 99 0 ((s82 99 0) + 1)) fun s83 =>
                      some (1, s83))
                    FU w61 s62) fun j84 =>
              if i32 (s59 0 (i32 ((s59 2 0) - 1))) = i32 43 then
                j84 1 s59
              else
                j84 2 s59) fun j86 =>
          if i32 z58.1 = 0 then
            Option.bind (m_takesSign 45 z58.2) fun z88 =>
            if i32 z88.1 = 0 then
              Option.bind (m_qBracket z88.2) fun z90 =>
              bnd (fun (s91 : MS) =>
                  Option.bind (m_asksSign 44 s91) fun z92 =>
                  if i32 (z92.2 5 0) = 0 then
                    Option.bind (m_qDropsToBracket z92.2) fun z94 =>
                    gd (ok 1700 ((z94.2 99 0) - 1)) <|
                    gd (ok 1700 ((z94.2 99 0) - 1)) <|
                    bnd (up z94.2 98 (i32 ((z94.2 99 0) - 1)) ((z94.2 98 (i32 ((z94.2 99 0) - 1))) + 2)) fun s97 =>
                    some (1, s97)
                  else
                    some (0, z92.2)) fun j98 =>
              if i32 z90.1 = i32 21 then
                j98 z90.2
              else
                Option.bind (m_qBracket z90.2) fun z100 =>
                if i32 z100.1 = i32 22 then
                  j98 z100.2
                else
                  Option.bind (m_qBracket z100.2) fun z102 =>
                  if i32 z102.1 = i32 (-1) then
                    some (0, z102.2)
                  else
                    if i32 (z102.2 5 0) = 0 then
                      Option.bind (m_fail 1 (z102.2 2 0) z102.2) fun z105 =>
                      some (0, z105.2)
                    else
                      some (0, z102.2)
            else
              j86 z88.2
          else
            j86 z58.2
        else
          j54 z56.2
      else
        j54 z30.2)
    FU s0
theorem wm_qGoesOn_L0 {p : Program} {l : Launch} {e : Env} {s : State} {m : MethodId} {args : Array Value} {below : List Frame} {meth : Method} {c : Code} {D : MD} {o : Nat} {res : Int × MS} {k122 : MS → Option (Int × MS)} (hC : GC p s m args meth c cX8_qGoesOn RX8 2 (some .boolean) (MK D)) (hk122 : ∀ (s2 : MS), k122 s2 = some res → GW p l e (rmd 4) s m args below meth c 2 (mAd o) (MRp D o) (MK D) 1 res s2 122 [(0, .ref o)] []) : ∀ (n : Nat) (s1 : MS), m_qGoesOn_L0 k122 n s1 = some res → GW p l e (rmd 4) s m args below meth c 2 (mAd o) (MRp D o) (MK D) 1 res s1 0 [(0, .ref o)] [] := by
  intro n
  induction n with
  | zero =>
    intro s1 h
    cases h
  | succ n ih =>
    intro s1 h
    rw [m_qGoesOn_L0] at h
    refine gw_aload_n 0 0 hC dX8_qGoesOn_0 rfl ?_
    refine mg_5 1 hC dX8_qGoesOn_1 ?_
    refine gw_if_ne 4 122 hC dX8_qGoesOn_4 (by decide) (fun c3 => ?_) (fun c3 => ?_)
    · replace h := if_f h c3
      refine gw_sub [0] rfl ?_
      exact hk122 _ h
    · replace h := if_t h c3
      refine gw_aload_n 7 0 hC dX8_qGoesOn_7 rfl ?_
      obtain ⟨z4, ez4, h⟩ := opt_e h
      refine gw_callV (As := []) (rest := []) (st' := [J z4.1]) 8 0 hC (met_look ez4 l) (lw_V q2105 q2107 qs59 q161 q2108) (by decide +kernel) (by decide) (m_recv hC) rfl rfl (Nat.le_of_ble_eq_true rfl) dX8_qGoesOn_8 rfl ?_
      refine gw_bipush 11 hC dX8_qGoesOn_11 (by decide) ?_
      refine gw_icmp_ne 13 122 hC dX8_qGoesOn_13 (by decide) (fun c5 => ?_) (fun c5 => ?_)
      · replace h := if_f h c5
        refine gw_sub [0] rfl ?_
        exact hk122 _ h
      · replace h := if_t h c5
        refine gw_aload_n 16 0 hC dX8_qGoesOn_16 rfl ?_
        obtain ⟨z6, ez6, h⟩ := opt_e h
        refine gw_callV (As := []) (rest := []) (st' := [J z6.1]) 17 0 hC (met_qBracket ez6 l) (lw_V q2220 q2222 qs85 q161 q2223) (by decide +kernel) (by decide) (m_recv hC) rfl rfl (Nat.le_of_ble_eq_true rfl) dX8_qGoesOn_17 rfl ?_
        refine gw_bipush 20 hC dX8_qGoesOn_20 (by decide) ?_
        obtain ⟨j23, ej23, h⟩ := bnd_e h
        have hj23 : ∀ (s7 : MS), j23 s7 = some res → GW p l e (rmd 4) s m args below meth c 2 (mAd o) (MRp D o) (MK D) 1 res s7 43 [(0, .ref o)] [] := by
          clear h
          intro s7 h
          subst ej23
          refine gw_aload_n 43 0 hC dX8_qGoesOn_43 rfl ?_
          refine gw_dup 44 hC dX8_qGoesOn_44 rfl ?_
          refine mg_2 45 hC dX8_qGoesOn_45 ?_
          refine gw_iconst 48 hC dX8_qGoesOn_48 ?_
          refine gw_iadd 49 hC dX8_qGoesOn_49 ?_
          obtain ⟨s8, es8, h⟩ := bnd_e h
          refine mp_2 50 hC (MIn_self o) es8 dX8_qGoesOn_50 ?_
          refine gw_aload_n 53 0 hC dX8_qGoesOn_53 rfl ?_
          obtain ⟨z9, ez9, h⟩ := opt_e h
          refine gw_callV (As := []) (rest := []) (st' := []) 54 0 hC (met_qDropsToBracket ez9 l) (lw_V q2227 q2229 qs86 q161 q2230) (by decide +kernel) (by decide) (m_recv hC) rfl rfl (Nat.le_of_ble_eq_true rfl) dX8_qGoesOn_54 rfl ?_
          refine gw_aload_n 57 0 hC dX8_qGoesOn_57 rfl ?_
          refine gw_dup 58 hC dX8_qGoesOn_58 rfl ?_
          refine mg_99 59 hC dX8_qGoesOn_59 ?_
          refine gw_iconst 62 hC dX8_qGoesOn_62 ?_
          refine gw_isub 63 hC dX8_qGoesOn_63 ?_
          obtain ⟨s10, es10, h⟩ := bnd_e h
          refine mp_99 64 hC (MIn_self o) es10 dX8_qGoesOn_64 ?_
          refine gw_aload_n 67 0 hC dX8_qGoesOn_67 rfl ?_
          refine gw_dup 68 hC dX8_qGoesOn_68 rfl ?_
          refine mg_100 69 hC dX8_qGoesOn_69 ?_
          refine gw_iconst 72 hC dX8_qGoesOn_72 ?_
          refine gw_isub 73 hC dX8_qGoesOn_73 ?_
          obtain ⟨s11, es11, h⟩ := bnd_e h
          refine mp_100 74 hC (MIn_self o) es11 dX8_qGoesOn_74 ?_
          refine gw_aload_n 77 0 hC dX8_qGoesOn_77 rfl ?_
          refine mg_98 78 hC dX8_qGoesOn_78 ?_
          refine gw_aload_n 81 0 hC dX8_qGoesOn_81 rfl ?_
          refine mg_99 82 hC dX8_qGoesOn_82 ?_
          obtain ⟨g12, h⟩ := gd_e h
          refine m_iald 85 98 hC (by decide) rfl g12 dX8_qGoesOn_85 ?_
          refine gw_bipush 86 hC dX8_qGoesOn_86 (by decide) ?_
          obtain ⟨j15, ej15, h⟩ := bnd_e h
          have hj15 : ∀ (s13 : MS), j15 s13 = some res → GW p l e (rmd 4) s m args below meth c 2 (mAd o) (MRp D o) (MK D) 1 res s13 115 [(0, .ref o)] [] := by
            clear h
            intro s13 h
            subst ej15
            refine gw_aload_n 115 0 hC dX8_qGoesOn_115 rfl ?_
            obtain ⟨z14, ez14, h⟩ := opt_e h
            refine gw_callV (As := []) (rest := []) (st' := []) 116 0 hC (met_qEndsPart ez14 l) (lw_V q2208 q2210 qs82 q161 q2211) (by decide +kernel) (by decide) (m_recv hC) rfl rfl (Nat.le_of_ble_eq_true rfl) dX8_qGoesOn_116 rfl ?_
            refine gw_goto 119 0 hC dX8_qGoesOn_119 (by decide) ?_
            refine gw_sub [0] rfl ?_
            exact ih _ h
          refine gw_icmp_eq 88 115 hC dX8_qGoesOn_88 (by decide) (fun c16 => ?_) (fun c16 => ?_)
          · replace h := if_t h c16
            refine gw_sub [0] rfl ?_
            exact hj15 _ h
          · replace h := if_f h c16
            refine gw_aload_n 91 0 hC dX8_qGoesOn_91 rfl ?_
            refine gw_aload_n 92 0 hC dX8_qGoesOn_92 rfl ?_
            refine mg_98 93 hC dX8_qGoesOn_93 ?_
            refine gw_aload_n 96 0 hC dX8_qGoesOn_96 rfl ?_
            refine mg_99 97 hC dX8_qGoesOn_97 ?_
            obtain ⟨g17, h⟩ := gd_e h
            refine m_iald 100 98 hC (by decide) rfl g17 dX8_qGoesOn_100 ?_
            refine gw_bipush 101 hC dX8_qGoesOn_101 (by decide) ?_
            obtain ⟨j21, ej21, h⟩ := bnd_e h
            have hj21 : ∀ (w18 : Int) (s19 : MS), j21 w18 s19 = some res → GW p l e (rmd 4) s m args below meth c 2 (mAd o) (MRp D o) (MK D) 1 res s19 112 [(0, .ref o)] [J w18, .ref o] := by
              clear h
              intro w18 s19 h
              subst ej21
              obtain ⟨z20, ez20, h⟩ := opt_e h
              refine gw_callV (As := [J w18]) (rest := []) (st' := []) 112 1 hC (met_qCode ez20 l) (lw_V q2180 q2182 qs75 q161 q2183) (by decide +kernel) (by decide) (m_recv hC) rfl rfl (Nat.le_of_ble_eq_true rfl) dX8_qGoesOn_112 rfl ?_
              refine gw_sub [0] rfl ?_
              exact hj15 _ h
            refine gw_icmp_ne 103 110 hC dX8_qGoesOn_103 (by decide) (fun c22 => ?_) (fun c22 => ?_)
            · replace h := if_f h c22
              refine gw_bipush 110 hC dX8_qGoesOn_110 (by decide) ?_
              refine gw_sub [0] rfl ?_
              exact hj21 _ _ h
            · replace h := if_t h c22
              refine gw_iconst 106 hC dX8_qGoesOn_106 ?_
              refine gw_goto 107 112 hC dX8_qGoesOn_107 (by decide) ?_
              refine gw_sub [0] rfl ?_
              exact hj21 _ _ h
        refine gw_icmp_eq 22 43 hC dX8_qGoesOn_22 (by decide) (fun c24 => ?_) (fun c24 => ?_)
        · replace h := if_t h c24
          refine gw_sub [0] rfl ?_
          exact hj23 _ h
        · replace h := if_f h c24
          refine gw_aload_n 25 0 hC dX8_qGoesOn_25 rfl ?_
          obtain ⟨z25, ez25, h⟩ := opt_e h
          refine gw_callV (As := []) (rest := []) (st' := [J z25.1]) 26 0 hC (met_qBracket ez25 l) (lw_V q2220 q2222 qs85 q161 q2223) (by decide +kernel) (by decide) (m_recv hC) rfl rfl (Nat.le_of_ble_eq_true rfl) dX8_qGoesOn_26 rfl ?_
          refine gw_bipush 29 hC dX8_qGoesOn_29 (by decide) ?_
          refine gw_icmp_eq 31 43 hC dX8_qGoesOn_31 (by decide) (fun c26 => ?_) (fun c26 => ?_)
          · replace h := if_t h c26
            refine gw_sub [0] rfl ?_
            exact hj23 _ h
          · replace h := if_f h c26
            refine gw_aload_n 34 0 hC dX8_qGoesOn_34 rfl ?_
            obtain ⟨z27, ez27, h⟩ := opt_e h
            refine gw_callV (As := []) (rest := []) (st' := [J z27.1]) 35 0 hC (met_qBracket ez27 l) (lw_V q2220 q2222 qs85 q161 q2223) (by decide +kernel) (by decide) (m_recv hC) rfl rfl (Nat.le_of_ble_eq_true rfl) dX8_qGoesOn_35 rfl ?_
            refine gw_bipush 38 hC dX8_qGoesOn_38 (by decide) ?_
            refine gw_icmp_ne 40 122 hC dX8_qGoesOn_40 (by decide) (fun c28 => ?_) (fun c28 => ?_)
            · replace h := if_f h c28
              refine gw_sub [0] rfl ?_
              exact hk122 _ h
            · replace h := if_t h c28
              refine gw_sub [0] rfl ?_
              exact hj23 _ h
theorem wm_qGoesOn_L162 {p : Program} {l : Launch} {e : Env} {s : State} {m : MethodId} {args : Array Value} {below : List Frame} {meth : Method} {c : Code} {D : MD} {o : Nat} {res : Int × MS} {k185 : Int → MS → Option (Int × MS)} (hC : GC p s m args meth c cX8_qGoesOn RX8 2 (some .boolean) (MK D)) (hk185 : ∀ (x1_37 : Int) (s38 : MS), k185 x1_37 s38 = some res → GW p l e (rmd 4) s m args below meth c 2 (mAd o) (MRp D o) (MK D) 1 res s38 185 [(0, .ref o), (1, J x1_37)] []) : ∀ (n : Nat) (x1_35 : Int) (s36 : MS), m_qGoesOn_L162 k185 n x1_35 s36 = some res → GW p l e (rmd 4) s m args below meth c 2 (mAd o) (MRp D o) (MK D) 1 res s36 162 [(0, .ref o), (1, J x1_35)] [] := by
  intro n
  induction n with
  | zero =>
    intro x1_35 s36 h
    cases h
  | succ n ih =>
    intro x1_35 s36 h
    rw [m_qGoesOn_L162] at h
    refine gw_aload_n 162 0 hC dX8_qGoesOn_162 rfl ?_
    refine gw_iconst 163 hC dX8_qGoesOn_163 ?_
    obtain ⟨z39, ez39, h⟩ := opt_e h
    refine gw_callV (As := [J 3]) (rest := []) (st' := [J z39.1]) 164 1 hC (met_qIsOn ez39 l) (lw_V q2231 q2233 qs87 q161 q2234) (by decide +kernel) (by decide) (m_recv hC) rfl rfl (Nat.le_of_ble_eq_true rfl) dX8_qGoesOn_164 rfl ?_
    obtain ⟨j43, ej43, h⟩ := bnd_e h
    have hj43 : ∀ (x1_40 : Int) (s41 : MS), j43 x1_40 s41 = some res → GW p l e (rmd 4) s m args below meth c 2 (mAd o) (MRp D o) (MK D) 1 res s41 178 [(0, .ref o), (1, J x1_40)] [] := by
      clear h
      intro x1_40 s41 h
      subst ej43
      refine gw_aload_n 178 0 hC dX8_qGoesOn_178 rfl ?_
      obtain ⟨z42, ez42, h⟩ := opt_e h
      refine gw_callV (As := []) (rest := []) (st' := []) 179 0 hC (met_qDrops ez42 l) (lw_V q2212 q2214 qs83 q161 q2215) (by decide +kernel) (by decide) (m_recv hC) rfl rfl (Nat.le_of_ble_eq_true rfl) dX8_qGoesOn_179 rfl ?_
      refine gw_goto 182 162 hC dX8_qGoesOn_182 (by decide) ?_
      refine gw_sub [0, 1] rfl ?_
      exact ih _ _ h
    refine gw_if_ne 167 178 hC dX8_qGoesOn_167 (by decide) (fun c44 => ?_) (fun c44 => ?_)
    · replace h := if_f h c44
      refine gw_sub [0, 1] rfl ?_
      exact hj43 _ _ h
    · replace h := if_t h c44
      refine gw_aload_n 170 0 hC dX8_qGoesOn_170 rfl ?_
      refine gw_iconst 171 hC dX8_qGoesOn_171 ?_
      obtain ⟨z45, ez45, h⟩ := opt_e h
      refine gw_callV (As := [J 4]) (rest := []) (st' := [J z45.1]) 172 1 hC (met_qIsOn ez45 l) (lw_V q2231 q2233 qs87 q161 q2234) (by decide +kernel) (by decide) (m_recv hC) rfl rfl (Nat.le_of_ble_eq_true rfl) dX8_qGoesOn_172 rfl ?_
      refine gw_if_eq 175 185 hC dX8_qGoesOn_175 (by decide) (fun c46 => ?_) (fun c46 => ?_)
      · replace h := if_t h c46
        refine gw_sub [0, 1] rfl ?_
        exact hk185 _ _ h
      · replace h := if_f h c46
        refine gw_sub [0, 1] rfl ?_
        exact hj43 _ _ h
theorem wm_qGoesOn_L247 {p : Program} {l : Launch} {e : Env} {s : State} {m : MethodId} {args : Array Value} {below : List Frame} {meth : Method} {c : Code} {D : MD} {o : Nat} {res : Int × MS} {k286 : Int → MS → Option (Int × MS)} (hC : GC p s m args meth c cX8_qGoesOn RX8 2 (some .boolean) (MK D)) (hk286 : ∀ (x1_65 : Int) (s66 : MS), k286 x1_65 s66 = some res → GW p l e (rmd 4) s m args below meth c 2 (mAd o) (MRp D o) (MK D) 1 res s66 286 [(0, .ref o), (1, J x1_65)] []) : ∀ (n : Nat) (x1_63 : Int) (s64 : MS), m_qGoesOn_L247 k286 n x1_63 s64 = some res → GW p l e (rmd 4) s m args below meth c 2 (mAd o) (MRp D o) (MK D) 1 res s64 247 [(0, .ref o), (1, J x1_63)] [] := by
  intro n
  induction n with
  | zero =>
    intro x1_63 s64 h
    cases h
  | succ n ih =>
    intro x1_63 s64 h
    rw [m_qGoesOn_L247] at h
    refine gw_aload_n 247 0 hC dX8_qGoesOn_247 rfl ?_
    refine gw_iconst 248 hC dX8_qGoesOn_248 ?_
    obtain ⟨z67, ez67, h⟩ := opt_e h
    refine gw_callV (As := [J 3]) (rest := []) (st' := [J z67.1]) 249 1 hC (met_qIsOn ez67 l) (lw_V q2231 q2233 qs87 q161 q2234) (by decide +kernel) (by decide) (m_recv hC) rfl rfl (Nat.le_of_ble_eq_true rfl) dX8_qGoesOn_249 rfl ?_
    obtain ⟨j71, ej71, h⟩ := bnd_e h
    have hj71 : ∀ (x1_68 : Int) (s69 : MS), j71 x1_68 s69 = some res → GW p l e (rmd 4) s m args below meth c 2 (mAd o) (MRp D o) (MK D) 1 res s69 279 [(0, .ref o), (1, J x1_68)] [] := by
      clear h
      intro x1_68 s69 h
      subst ej71
      refine gw_aload_n 279 0 hC dX8_qGoesOn_279 rfl ?_
      obtain ⟨z70, ez70, h⟩ := opt_e h
      refine gw_callV (As := []) (rest := []) (st' := []) 280 0 hC (met_qDrops ez70 l) (lw_V q2212 q2214 qs83 q161 q2215) (by decide +kernel) (by decide) (m_recv hC) rfl rfl (Nat.le_of_ble_eq_true rfl) dX8_qGoesOn_280 rfl ?_
      refine gw_goto 283 247 hC dX8_qGoesOn_283 (by decide) ?_
      refine gw_sub [0, 1] rfl ?_
      exact ih _ _ h
    refine gw_if_ne 252 279 hC dX8_qGoesOn_252 (by decide) (fun c72 => ?_) (fun c72 => ?_)
    · replace h := if_f h c72
      refine gw_sub [0, 1] rfl ?_
      exact hj71 _ _ h
    · replace h := if_t h c72
      refine gw_aload_n 255 0 hC dX8_qGoesOn_255 rfl ?_
      refine gw_iconst 256 hC dX8_qGoesOn_256 ?_
      obtain ⟨z73, ez73, h⟩ := opt_e h
      refine gw_callV (As := [J 4]) (rest := []) (st' := [J z73.1]) 257 1 hC (met_qIsOn ez73 l) (lw_V q2231 q2233 qs87 q161 q2234) (by decide +kernel) (by decide) (m_recv hC) rfl rfl (Nat.le_of_ble_eq_true rfl) dX8_qGoesOn_257 rfl ?_
      refine gw_if_ne 260 279 hC dX8_qGoesOn_260 (by decide) (fun c74 => ?_) (fun c74 => ?_)
      · replace h := if_f h c74
        refine gw_sub [0, 1] rfl ?_
        exact hj71 _ _ h
      · replace h := if_t h c74
        refine gw_aload_n 263 0 hC dX8_qGoesOn_263 rfl ?_
        refine gw_iconst 264 hC dX8_qGoesOn_264 ?_
        obtain ⟨z75, ez75, h⟩ := opt_e h
        refine gw_callV (As := [J 1]) (rest := []) (st' := [J z75.1]) 265 1 hC (met_qIsOn ez75 l) (lw_V q2231 q2233 qs87 q161 q2234) (by decide +kernel) (by decide) (m_recv hC) rfl rfl (Nat.le_of_ble_eq_true rfl) dX8_qGoesOn_265 rfl ?_
        refine gw_if_ne 268 279 hC dX8_qGoesOn_268 (by decide) (fun c76 => ?_) (fun c76 => ?_)
        · replace h := if_f h c76
          refine gw_sub [0, 1] rfl ?_
          exact hj71 _ _ h
        · replace h := if_t h c76
          refine gw_aload_n 271 0 hC dX8_qGoesOn_271 rfl ?_
          refine gw_iconst 272 hC dX8_qGoesOn_272 ?_
          obtain ⟨z77, ez77, h⟩ := opt_e h
          refine gw_callV (As := [J 2]) (rest := []) (st' := [J z77.1]) 273 1 hC (met_qIsOn ez77 l) (lw_V q2231 q2233 qs87 q161 q2234) (by decide +kernel) (by decide) (m_recv hC) rfl rfl (Nat.le_of_ble_eq_true rfl) dX8_qGoesOn_273 rfl ?_
          refine gw_if_eq 276 286 hC dX8_qGoesOn_276 (by decide) (fun c78 => ?_) (fun c78 => ?_)
          · replace h := if_t h c78
            refine gw_sub [0, 1] rfl ?_
            exact hk286 _ _ h
          · replace h := if_f h c78
            refine gw_sub [0, 1] rfl ?_
            exact hj71 _ _ h
theorem met_qGoesOn {D : MD} {o : Nat} {s0 : MS} {res : Int × MS} (h : m_qGoesOn s0 = some res) (l : Launch) : GMet l yX8_qGoesOn cX8_qGoesOn 2 (some .boolean) 4 (MRp D o) (MK D) (mAd o) [.ref o] s0 1 res := by
  refine GMet.of [(0, .ref o)] (by decide) (MK_moved D) (Nat.le_of_ble_eq_true rfl) rfl ?_
  intro p e s m args below meth c hC
  have hC : GC p s m args meth c cX8_qGoesOn RX8 2 (some .boolean) (MK D) := hC
  unfold m_qGoesOn at h
  refine gw_sub [0] rfl ?_
  refine wm_qGoesOn_L0 hC (fun s29 h => ?_) FU _ h
  · refine gw_aload_n 122 0 hC dX8_qGoesOn_122 rfl ?_
    refine gw_bipush 123 hC dX8_qGoesOn_123 (by decide) ?_
    obtain ⟨z30, ez30, h⟩ := opt_e h
    refine gw_callV (As := [J 42]) (rest := []) (st' := [J z30.1]) 125 1 hC (met_takesSign ez30 l) (lw_V q2130 q2132 qs63 q161 q2133) (by decide +kernel) (by decide) (m_recv hC) rfl rfl (Nat.le_of_ble_eq_true rfl) dX8_qGoesOn_125 rfl ?_
    obtain ⟨j54, ej54, h⟩ := bnd_e h
    have hj54 : ∀ (s31 : MS), j54 s31 = some res → GW p l e (rmd 4) s m args below meth c 2 (mAd o) (MRp D o) (MK D) 1 res s31 140 [(0, .ref o)] [] := by
      clear h
      intro s31 h
      subst ej54
      refine gw_aload_n 140 0 hC dX8_qGoesOn_140 rfl ?_
      refine mg_0 141 hC dX8_qGoesOn_141 ?_
      refine gw_aload_n 144 0 hC dX8_qGoesOn_144 rfl ?_
      refine mg_2 145 hC dX8_qGoesOn_145 ?_
      refine gw_iconst 148 hC dX8_qGoesOn_148 ?_
      refine gw_isub 149 hC dX8_qGoesOn_149 ?_
      obtain ⟨g32, h⟩ := gd_e h
      refine m_iald 150 0 hC (by decide) rfl g32 dX8_qGoesOn_150 ?_
      refine gw_bipush 151 hC dX8_qGoesOn_151 (by decide) ?_
      obtain ⟨j52, ej52, h⟩ := bnd_e h
      have hj52 : ∀ (w33 : Int) (s34 : MS), j52 w33 s34 = some res → GW p l e (rmd 4) s m args below meth c 2 (mAd o) (MRp D o) (MK D) 1 res s34 161 [(0, .ref o)] [J w33] := by
        clear h
        intro w33 s34 h
        subst ej52
        refine gw_istore_n 161 [(1, J w33), (0, .ref o)] hC dX8_qGoesOn_161 (by decide) rfl rfl ?_
        refine gw_sub [1, 0] rfl ?_
        refine wm_qGoesOn_L162 hC (fun x1_47 s48 h => ?_) FU _ _ h
        · refine gw_aload_n 185 0 hC dX8_qGoesOn_185 rfl ?_
          refine mg_98 186 hC dX8_qGoesOn_186 ?_
          refine gw_aload_n 189 0 hC dX8_qGoesOn_189 rfl ?_
          refine mg_99 190 hC dX8_qGoesOn_190 ?_
          refine gw_iload_n 193 1 hC dX8_qGoesOn_193 rfl ?_
          obtain ⟨g49, h⟩ := gd_e h
          obtain ⟨s50, es50, h⟩ := bnd_e h
          refine m_iast 194 98 hC (MIn_self o) (by decide) rfl g49 es50 dX8_qGoesOn_194 ?_
          refine gw_aload_n 195 0 hC dX8_qGoesOn_195 rfl ?_
          refine gw_dup 196 hC dX8_qGoesOn_196 rfl ?_
          refine mg_99 197 hC dX8_qGoesOn_197 ?_
          refine gw_iconst 200 hC dX8_qGoesOn_200 ?_
          refine gw_iadd 201 hC dX8_qGoesOn_201 ?_
          obtain ⟨s51, es51, h⟩ := bnd_e h
          refine mp_99 202 hC (MIn_self o) es51 dX8_qGoesOn_202 ?_
          refine gw_iconst 205 hC dX8_qGoesOn_205 ?_
          exact gw_zret 206 hC dX8_qGoesOn_206 (by decide) h
      refine gw_icmp_ne 153 160 hC dX8_qGoesOn_153 (by decide) (fun c53 => ?_) (fun c53 => ?_)
      · replace h := if_f h c53
        refine gw_iconst 160 hC dX8_qGoesOn_160 ?_
        refine gw_sub [0] rfl ?_
        exact hj52 _ _ h
      · replace h := if_t h c53
        refine gw_iconst 156 hC dX8_qGoesOn_156 ?_
        refine gw_goto 157 161 hC dX8_qGoesOn_157 (by decide) ?_
        refine gw_sub [0] rfl ?_
        exact hj52 _ _ h
    refine gw_if_ne 128 140 hC dX8_qGoesOn_128 (by decide) (fun c55 => ?_) (fun c55 => ?_)
    · replace h := if_f h c55
      refine gw_sub [0] rfl ?_
      exact hj54 _ h
    · replace h := if_t h c55
      refine gw_aload_n 131 0 hC dX8_qGoesOn_131 rfl ?_
      refine gw_bipush 132 hC dX8_qGoesOn_132 (by decide) ?_
      obtain ⟨z56, ez56, h⟩ := opt_e h
      refine gw_callV (As := [J 47]) (rest := []) (st' := [J z56.1]) 134 1 hC (met_takesSign ez56 l) (lw_V q2130 q2132 qs63 q161 q2133) (by decide +kernel) (by decide) (m_recv hC) rfl rfl (Nat.le_of_ble_eq_true rfl) dX8_qGoesOn_134 rfl ?_
      refine gw_if_eq 137 207 hC dX8_qGoesOn_137 (by decide) (fun c57 => ?_) (fun c57 => ?_)
      · replace h := if_t h c57
        refine gw_aload_n 207 0 hC dX8_qGoesOn_207 rfl ?_
        refine gw_bipush 208 hC dX8_qGoesOn_208 (by decide) ?_
        obtain ⟨z58, ez58, h⟩ := opt_e h
        refine gw_callV (As := [J 43]) (rest := []) (st' := [J z58.1]) 210 1 hC (met_takesSign ez58 l) (lw_V q2130 q2132 qs63 q161 q2133) (by decide +kernel) (by decide) (m_recv hC) rfl rfl (Nat.le_of_ble_eq_true rfl) dX8_qGoesOn_210 rfl ?_
        obtain ⟨j86, ej86, h⟩ := bnd_e h
        have hj86 : ∀ (s59 : MS), j86 s59 = some res → GW p l e (rmd 4) s m args below meth c 2 (mAd o) (MRp D o) (MK D) 1 res s59 225 [(0, .ref o)] [] := by
          clear h
          intro s59 h
          subst ej86
          refine gw_aload_n 225 0 hC dX8_qGoesOn_225 rfl ?_
          refine mg_0 226 hC dX8_qGoesOn_226 ?_
          refine gw_aload_n 229 0 hC dX8_qGoesOn_229 rfl ?_
          refine mg_2 230 hC dX8_qGoesOn_230 ?_
          refine gw_iconst 233 hC dX8_qGoesOn_233 ?_
          refine gw_isub 234 hC dX8_qGoesOn_234 ?_
          obtain ⟨g60, h⟩ := gd_e h
          refine m_iald 235 0 hC (by decide) rfl g60 dX8_qGoesOn_235 ?_
          refine gw_bipush 236 hC dX8_qGoesOn_236 (by decide) ?_
          obtain ⟨j84, ej84, h⟩ := bnd_e h
          have hj84 : ∀ (w61 : Int) (s62 : MS), j84 w61 s62 = some res → GW p l e (rmd 4) s m args below meth c 2 (mAd o) (MRp D o) (MK D) 1 res s62 246 [(0, .ref o)] [J w61] := by
            clear h
            intro w61 s62 h
            subst ej84
            refine gw_istore_n 246 [(1, J w61), (0, .ref o)] hC dX8_qGoesOn_246 (by decide) rfl rfl ?_
            refine gw_sub [1, 0] rfl ?_
            refine wm_qGoesOn_L247 hC (fun x1_79 s80 h => ?_) FU _ _ h
            · refine gw_aload_n 286 0 hC dX8_qGoesOn_286 rfl ?_
              refine mg_98 287 hC dX8_qGoesOn_287 ?_
              refine gw_aload_n 290 0 hC dX8_qGoesOn_290 rfl ?_
              refine mg_99 291 hC dX8_qGoesOn_291 ?_
              refine gw_iload_n 294 1 hC dX8_qGoesOn_294 rfl ?_
              obtain ⟨g81, h⟩ := gd_e h
              obtain ⟨s82, es82, h⟩ := bnd_e h
              refine m_iast 295 98 hC (MIn_self o) (by decide) rfl g81 es82 dX8_qGoesOn_295 ?_
              refine gw_aload_n 296 0 hC dX8_qGoesOn_296 rfl ?_
              refine gw_dup 297 hC dX8_qGoesOn_297 rfl ?_
              refine mg_99 298 hC dX8_qGoesOn_298 ?_
              refine gw_iconst 301 hC dX8_qGoesOn_301 ?_
              refine gw_iadd 302 hC dX8_qGoesOn_302 ?_
              obtain ⟨s83, es83, h⟩ := bnd_e h
              refine mp_99 303 hC (MIn_self o) es83 dX8_qGoesOn_303 ?_
              refine gw_iconst 306 hC dX8_qGoesOn_306 ?_
              exact gw_zret 307 hC dX8_qGoesOn_307 (by decide) h
          refine gw_icmp_ne 238 245 hC dX8_qGoesOn_238 (by decide) (fun c85 => ?_) (fun c85 => ?_)
          · replace h := if_f h c85
            refine gw_iconst 245 hC dX8_qGoesOn_245 ?_
            refine gw_sub [0] rfl ?_
            exact hj84 _ _ h
          · replace h := if_t h c85
            refine gw_iconst 241 hC dX8_qGoesOn_241 ?_
            refine gw_goto 242 246 hC dX8_qGoesOn_242 (by decide) ?_
            refine gw_sub [0] rfl ?_
            exact hj84 _ _ h
        refine gw_if_ne 213 225 hC dX8_qGoesOn_213 (by decide) (fun c87 => ?_) (fun c87 => ?_)
        · replace h := if_f h c87
          refine gw_sub [0] rfl ?_
          exact hj86 _ h
        · replace h := if_t h c87
          refine gw_aload_n 216 0 hC dX8_qGoesOn_216 rfl ?_
          refine gw_bipush 217 hC dX8_qGoesOn_217 (by decide) ?_
          obtain ⟨z88, ez88, h⟩ := opt_e h
          refine gw_callV (As := [J 45]) (rest := []) (st' := [J z88.1]) 219 1 hC (met_takesSign ez88 l) (lw_V q2130 q2132 qs63 q161 q2133) (by decide +kernel) (by decide) (m_recv hC) rfl rfl (Nat.le_of_ble_eq_true rfl) dX8_qGoesOn_219 rfl ?_
          refine gw_if_eq 222 308 hC dX8_qGoesOn_222 (by decide) (fun c89 => ?_) (fun c89 => ?_)
          · replace h := if_t h c89
            refine gw_aload_n 308 0 hC dX8_qGoesOn_308 rfl ?_
            obtain ⟨z90, ez90, h⟩ := opt_e h
            refine gw_callV (As := []) (rest := []) (st' := [J z90.1]) 309 0 hC (met_qBracket ez90 l) (lw_V q2220 q2222 qs85 q161 q2223) (by decide +kernel) (by decide) (m_recv hC) rfl rfl (Nat.le_of_ble_eq_true rfl) dX8_qGoesOn_309 rfl ?_
            refine gw_bipush 312 hC dX8_qGoesOn_312 (by decide) ?_
            obtain ⟨j98, ej98, h⟩ := bnd_e h
            have hj98 : ∀ (s91 : MS), j98 s91 = some res → GW p l e (rmd 4) s m args below meth c 2 (mAd o) (MRp D o) (MK D) 1 res s91 326 [(0, .ref o)] [] := by
              clear h
              intro s91 h
              subst ej98
              refine gw_aload_n 326 0 hC dX8_qGoesOn_326 rfl ?_
              refine gw_bipush 327 hC dX8_qGoesOn_327 (by decide) ?_
              obtain ⟨z92, ez92, h⟩ := opt_e h
              refine gw_callV (As := [J 44]) (rest := []) (st' := []) 329 1 hC (met_asksSign ez92 l) (lw_V q2126 q2128 qs62 q161 q2129) (by decide +kernel) (by decide) (m_recv hC) rfl rfl (Nat.le_of_ble_eq_true rfl) dX8_qGoesOn_329 rfl ?_
              refine gw_aload_n 332 0 hC dX8_qGoesOn_332 rfl ?_
              refine mg_5 333 hC dX8_qGoesOn_333 ?_
              refine gw_if_eq 336 341 hC dX8_qGoesOn_336 (by decide) (fun c93 => ?_) (fun c93 => ?_)
              · replace h := if_t h c93
                refine gw_aload_n 341 0 hC dX8_qGoesOn_341 rfl ?_
                obtain ⟨z94, ez94, h⟩ := opt_e h
                refine gw_callV (As := []) (rest := []) (st' := []) 342 0 hC (met_qDropsToBracket ez94 l) (lw_V q2227 q2229 qs86 q161 q2230) (by decide +kernel) (by decide) (m_recv hC) rfl rfl (Nat.le_of_ble_eq_true rfl) dX8_qGoesOn_342 rfl ?_
                refine gw_aload_n 345 0 hC dX8_qGoesOn_345 rfl ?_
                refine mg_98 346 hC dX8_qGoesOn_346 ?_
                refine gw_aload_n 349 0 hC dX8_qGoesOn_349 rfl ?_
                refine mg_99 350 hC dX8_qGoesOn_350 ?_
                refine gw_iconst 353 hC dX8_qGoesOn_353 ?_
                refine gw_isub 354 hC dX8_qGoesOn_354 ?_
                refine gw_dup2 355 hC dX8_qGoesOn_355 rfl rfl ?_
                obtain ⟨g95, h⟩ := gd_e h
                refine m_iald 356 98 hC (by decide) rfl g95 dX8_qGoesOn_356 ?_
                refine gw_iconst 357 hC dX8_qGoesOn_357 ?_
                refine gw_iadd 358 hC dX8_qGoesOn_358 ?_
                obtain ⟨g96, h⟩ := gd_e h
                obtain ⟨s97, es97, h⟩ := bnd_e h
                refine m_iast 359 98 hC (MIn_self o) (by decide) rfl g96 es97 dX8_qGoesOn_359 ?_
                refine gw_iconst 360 hC dX8_qGoesOn_360 ?_
                exact gw_zret 361 hC dX8_qGoesOn_361 (by decide) h
              · replace h := if_f h c93
                refine gw_iconst 339 hC dX8_qGoesOn_339 ?_
                exact gw_zret 340 hC dX8_qGoesOn_340 (by decide) h
            refine gw_icmp_eq 314 326 hC dX8_qGoesOn_314 (by decide) (fun c99 => ?_) (fun c99 => ?_)
            · replace h := if_t h c99
              refine gw_sub [0] rfl ?_
              exact hj98 _ h
            · replace h := if_f h c99
              refine gw_aload_n 317 0 hC dX8_qGoesOn_317 rfl ?_
              obtain ⟨z100, ez100, h⟩ := opt_e h
              refine gw_callV (As := []) (rest := []) (st' := [J z100.1]) 318 0 hC (met_qBracket ez100 l) (lw_V q2220 q2222 qs85 q161 q2223) (by decide +kernel) (by decide) (m_recv hC) rfl rfl (Nat.le_of_ble_eq_true rfl) dX8_qGoesOn_318 rfl ?_
              refine gw_bipush 321 hC dX8_qGoesOn_321 (by decide) ?_
              refine gw_icmp_ne 323 362 hC dX8_qGoesOn_323 (by decide) (fun c101 => ?_) (fun c101 => ?_)
              · replace h := if_f h c101
                refine gw_aload_n 362 0 hC dX8_qGoesOn_362 rfl ?_
                obtain ⟨z102, ez102, h⟩ := opt_e h
                refine gw_callV (As := []) (rest := []) (st' := [J z102.1]) 363 0 hC (met_qBracket ez102 l) (lw_V q2220 q2222 qs85 q161 q2223) (by decide +kernel) (by decide) (m_recv hC) rfl rfl (Nat.le_of_ble_eq_true rfl) dX8_qGoesOn_363 rfl ?_
                refine gw_iconst 366 hC dX8_qGoesOn_366 ?_
                refine gw_icmp_eq 367 386 hC dX8_qGoesOn_367 (by decide) (fun c103 => ?_) (fun c103 => ?_)
                · replace h := if_t h c103
                  refine gw_iconst 386 hC dX8_qGoesOn_386 ?_
                  exact gw_zret 387 hC dX8_qGoesOn_387 (by decide) h
                · replace h := if_f h c103
                  refine gw_aload_n 370 0 hC dX8_qGoesOn_370 rfl ?_
                  refine mg_5 371 hC dX8_qGoesOn_371 ?_
                  refine gw_if_ne 374 386 hC dX8_qGoesOn_374 (by decide) (fun c104 => ?_) (fun c104 => ?_)
                  · replace h := if_f h c104
                    refine gw_iconst 386 hC dX8_qGoesOn_386 ?_
                    exact gw_zret 387 hC dX8_qGoesOn_387 (by decide) h
                  · replace h := if_t h c104
                    refine gw_aload_n 377 0 hC dX8_qGoesOn_377 rfl ?_
                    refine gw_iconst 378 hC dX8_qGoesOn_378 ?_
                    refine gw_aload_n 379 0 hC dX8_qGoesOn_379 rfl ?_
                    refine mg_2 380 hC dX8_qGoesOn_380 ?_
                    obtain ⟨z105, ez105, h⟩ := opt_e h
                    refine gw_callV (As := [J 1, J (z102.2 2 0)]) (rest := []) (st' := []) 383 2 hC (met_fail ez105 l) (lw_V q2112 q2114 qs60 q161 q2115) (by decide +kernel) (by decide) (m_recv hC) rfl rfl (Nat.le_of_ble_eq_true rfl) dX8_qGoesOn_383 rfl ?_
                    refine gw_iconst 386 hC dX8_qGoesOn_386 ?_
                    exact gw_zret 387 hC dX8_qGoesOn_387 (by decide) h
              · replace h := if_t h c101
                refine gw_sub [0] rfl ?_
                exact hj98 _ h
          · replace h := if_f h c89
            refine gw_sub [0] rfl ?_
            exact hj86 _ h
      · replace h := if_f h c57
        refine gw_sub [0] rfl ?_
        exact hj54 _ h
