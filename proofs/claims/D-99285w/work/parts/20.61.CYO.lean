set_option maxRecDepth 100000
/-! LAYER 2: a whole country is read by both -/
section
variable {T : Int → Int} {n p q : Int} {τb τ τ' : XS} {s s' s0 : MS} {c : Int}
/-- what stays of the system while a country is read -/
def exd (τ τ' : XS) : Prop := (τ (-1) 0 ≤ τ' (-1) 0 ∧ τ (-1) 1 ≤ τ' (-1) 1) ∧ (∀ i, 2 ≤ i → τ' (-1) i = τ (-1) i) ∧ ∀ y, y ≠ -1 → y ≠ 7 → y ≠ 8 → y < τ (-1) 0 → τ' y = τ y
/-- the reference, ready for a new country -/
def czs (s : MS) : Prop := s 44 0 = 0 ∧ (s 36 0 = 0 ∧ s 36 1 = 0) ∧ s 40 0 = 0 ∧ s 35 1 = 0 ∧ s 41 0 = -1 ∧ s 41 1 = -1 ∧ s 41 2 = -1
noncomputable def mAl (km : MS → Option (Int × MS)) (s23 : MS) : Option (Int × MS) :=
      Option.bind (m_duskTold s23) fun z24 =>
      bnd (up z24.2 45 0 1) fun s25 =>
      m_country_L93 km FU s25
theorem nxw (p : Prop) (h : p) : p := h
theorem all_ok (km : MS → Option (Int × MS)) (ha : al τ) (hcs : cst τ) (ht : tpOk T n) (hT : ∀ k : Int, 0 ≤ k → k < 1600 → τ 6 k = sb (T k)) (hM : mG T n s 0) (hz : czs s) :
    (∃ τ' s' es fs ws vs, x2_all n τ = some (0, τ (-1) 0, τ') ∧ mAl km s = km s' ∧ (exd τ τ' ∧ al τ') ∧ ((s' 5 0 = 0 ∧ s' 6 0 = -1) ∧ stk s s') ∧ CYR τ' s' (τ (-1) 0) 0 es fs ws vs ∧ s' 44 0 ≤ n ∧ rmo (60 * n + 10) (500 * n + 100) τ τ') ∨
    (∃ τ' s' kd pl, x2_all n τ = some (1, 0, τ') ∧ mAl km s = km s' ∧ (exd τ τ' ∧ al τ' ∧ τ' 8 6 = kd ∧ τ' 8 7 = pl) ∧ rmo (60 * n + 200) (500 * n + 800) τ τ' ∧ (stk s s' ∧ s' 5 0 = kd ∧ s' 6 0 = pl) ∧ 1 ≤ kd ∧ kd ≤ 5) := by
  have hn := ht.1
  obtain ⟨N, eN⟩ : ∃ N, τ (-1) 0 = N := ⟨_, rfl⟩
  have hN : 1514 ≤ N := by have := ha.1; omega
  have nn0 : 0 ≤ τ (-1) 0 ∧ 0 ≤ τ (-1) 1 := ⟨by omega, ha.2.1⟩
  obtain ⟨τ1, i1, i2, i3, i4, ⟨i5, i6⟩, ⟨i7, i8⟩, i9, i10, i11, i12⟩ := newCountry_ev ha
  rw [eN] at i1 i4 i7 i9 i10 i11 i12
  obtain ⟨τb, eb⟩ : ∃ τb, ux (ux (ux (ux τ 7 6 N) 7 1 n) 7 2 0) 7 4 0 = τb := ⟨_, rfl⟩
  obtain ⟨τ2, e2⟩ : ∃ τ2, ux (ux (ux (ux τ1 7 6 N) 7 1 n) 7 2 0) 7 4 0 = τ2 := ⟨_, rfl⟩
  have fb : ∀ y, y ≠ 7 → τb y = τ y := fun y h => by rw [← eb, ux_cell h, ux_cell h, ux_cell h, ux_cell h]
  have f2 : ∀ y, y ≠ 7 → τ2 y = τ1 y := fun y h => by rw [← e2, ux_cell h, ux_cell h, ux_cell h, ux_cell h]
  have b76 : τb 7 6 = N := by rw [← eb, ux_i _ _ _ _ (by decide), ux_i _ _ _ _ (by decide), ux_i _ _ _ _ (by decide), ux_s]
  have b7 : τ2 7 = τb 7 := by
    funext i
    rw [← eb, ← e2]
    by_cases h4 : i = 4
    · rw [h4, ux_s, ux_s]
    rw [ux_i _ _ _ _ h4, ux_i _ _ _ _ h4]
    by_cases h2 : i = 2
    · rw [h2, ux_s, ux_s]
    rw [ux_i _ _ _ _ h2, ux_i _ _ _ _ h2]
    by_cases h1 : i = 1
    · rw [h1, ux_s, ux_s]
    rw [ux_i _ _ _ _ h1, ux_i _ _ _ _ h1]
    by_cases h6 : i = 6
    · rw [h6, ux_s, ux_s]
    rw [ux_i _ _ _ _ h6, ux_i _ _ _ _ h6, i5]
  have bN : τb (-1) = τ (-1) := fb _ (by decide)
  have tN : τ2 (-1) = τ1 (-1) := f2 _ (by decide)
  have X2 : exc τb τ2 := by
    refine ⟨by rw [bN, tN]; exact i2.1, fun i hi => by rw [bN, tN]; exact i2.2.1 i hi, fun y h1 h2 h3 h4 => ?_, fun i _ _ _ _ => by rw [b7]⟩
    rw [bN] at h4
    rw [f2 y h2, fb y h2]
    exact i2.2.2.1 y h1 h2 h3 h4
  have al2 : al τ2 := by
    refine ⟨by rw [tN]; exact i3.1, by rw [tN]; exact i3.2.1, fun y hy => ?_⟩
    rw [tN] at hy
    rw [f2 y (by have := i3.1; omega)]
    exact i3.2.2 y hy
  have G2 : xG T n τ2 0 := by
    refine ⟨ht, fun k h0 h1 => ?_, by rw [← e2, ux_i _ _ _ _ (by decide), ux_i _ _ _ _ (by decide), ux_s], by rw [← e2, ux_i _ _ _ _ (by decide), ux_s], by omega, al2, ?_⟩
    · rw [f2 6 (by decide), i2.2.2.1 6 (by decide) (by decide) (by decide) (by omega)]
      exact hT k h0 h1
    · refine (hcs.ext ha i2).off (fun i _ => by rw [tN]) (fun y hy _ => f2 y (fun e => ?_))
      rw [e] at hy
      unfold fre at hy
      omega
  have S2 : cyS τ2 N [] [] := by
    have g : ∀ y, 1514 ≤ y → τ2 y = τ1 y := fun y h => f2 y (by omega)
    have w1 : 1514 ≤ τ1 N 4 := i4.2.2.1.1.1.1
    have w2 : 1514 ≤ τ1 N 5 := i4.2.2.2.1.1.1
    have w3 : 1514 ≤ τ1 (τ1 N 4) 1 := i4.2.2.1.1.2.1.1
    have w4 : 1514 ≤ τ1 (τ1 N 5) 1 := i4.2.2.2.1.2.1.1
    unfold cyS
    rw [g N hN, g _ w1, g _ w2, g _ w3, g _ w4]
    exact ⟨i4.1, i4.2.1, ⟨i4.2.2.1.1.kep2 (g _ w1) (g _ w3), i4.2.2.1.2⟩, i4.2.2.2.1.kep2 (g _ w2) (g _ w4), i4.2.2.2.2⟩
  have gN : τ2 N = τ1 N := f2 N (by omega)
  have h24 : τ2 7 4 = 0 := by rw [← e2, ux_s]
  have L2 : lsb τb τ2 N := by
    unfold lsb
    rw [bN, gN, i11.1, i12.1, f2 _ (by omega), f2 _ (by omega), i11.2, i12.2]
    omega
  have R2 : rmo 5 21 τ τ2 := by
    unfold rmo
    rw [tN]
    omega
  have exb : ∀ {τx : XS}, exc τb τx → exd τ τx := fun {τx} h => by
    have h' := h
    unfold exc at h'
    rw [bN] at h'
    exact ⟨h'.1, h'.2.1, fun y q1 q2 q3 q4 => by rw [h'.2.2.1 y q1 q2 q3 q4, fb y q2]⟩
  have o40 : ok 4 0 := by decide
  have q120 : ((120, [100, 117, 115, 107]) : Int × List Int) ∈ csl := by decide
  have hh : ∀ {K : Option RX}, (Option.bind (x2_word (τ2 (-1) 120) τ2) fun z10 =>
      if z10.1 = 0 then
      gd (¬ (z10.2.2 7 6) = -1) <|
      Option.bind (x2_number 1 99 z10.2.2) fun z13 =>
      if z13.1 = 0 then
      gd (tg true z13.2.2 (z10.2.2 7 6) = 2) <|
      gd (0 ≤ (z10.2.2 7 6) ∧ ¬ (1438 ≤ (z10.2.2 7 6) ∧ (z10.2.2 7 6) < 1514)) <|
      bnd (ux z13.2.2 (z10.2.2 7 6) 1 z13.2.1) fun s17 =>
      Option.bind (x2_must 59 s17) fun z18 =>
      if z18.1 = 0 then
      gd (¬ (z18.2.2 7 6) = -1) <|
      gd (tg true z18.2.2 (z18.2.2 7 6) = 2) <|
      gd (0 ≤ (z18.2.2 7 6) ∧ ¬ (1438 ≤ (z18.2.2 7 6) ∧ (z18.2.2 7 6) < 1514)) <|
      bnd (ux z18.2.2 (z18.2.2 7 6) 0 1) fun s23 =>
      x2_all_L60
        (fun (s53 : XS) =>
          gd (¬ (s53 7 6) = -1) <|
          some (0, (s53 7 6), s53))
        FU s23
      else some (1, 0, z18.2.2)
      else some (1, 0, z13.2.2)
      else some (1, 0, z10.2.2)) = K → x2_all n τ = K := fun {K} h => by
    have nN : ¬ τ (-1) 0 = -1 := by omega
    unfold x2_all
    refine st_gd nn0 (st_bnd (st_bind (z := (0, τ1)) (by rw [eN]; exact i1) (st_gd nN (st_bnd (st_bnd (st_bnd (st_be (e' := τ2) ?_ h)))))))
    rw [← e2, eN]
  -- the word
  by_cases c1 : hereW T n (rn qB T n 0) (wo 10) = true
  · obtain ⟨τ3, x1, x2, x3, x4, x5⟩ := wordW_t G2 q120 c1
    obtain ⟨s3, m1, m2, m3⟩ := m_asks_t hM (a := 10) (by decide) c1
    have hsk := sk_b G2
    have hwn := x3.2.2.2.2.1
    have hle := rn_le (q := qL) (T := T) (n := n) (rn qB T n 0)
    obtain ⟨r, er⟩ : ∃ r, rn qL T n (rn qB T n 0) = r := ⟨_, rfl⟩
    rw [er] at x3 x5 m3 hwn hle
    have x76 : τ3 7 6 = N := by rw [x2.2.2.2 6 (by decide) (by decide) (by decide), b7]; exact b76
    have n3 : ¬ τ3 7 6 = -1 := by omega
    obtain ⟨Y1, Y2⟩ := number_ev x3 (lo := 1) (hi := 99) (by omega) (by omega)
    obtain ⟨M1, M2⟩ := m_number_ev m3 (lo := 1) (hi := 99) (by omega) (by omega)
    have al3 := x3.2.2.2.2.2.1
    by_cases c2 : (tkN T n r 1 99).1 = 0
    · obtain ⟨τ4, y1, y2, y3, y4, y5⟩ := Y1 c2
      obtain ⟨s4, k1, k2, k3⟩ := M1 c2
      obtain ⟨t1, t2⟩ := tkN_end c2
      have hle2 := rn_le (q := qB) (T := T) (n := n) r
      generalize (tkN T n r 1 99).2.1 = v at *
      generalize (tkN T n r 1 99).2.2 = e at *
      have he := y3.2.2.2.2.1
      have al4 := y3.2.2.2.2.2.1
      have kp4 := (x2.tr y2)
      have S4 : cyS τ4 N [] [] := S2.kp al2 kp4.kps
      have lt2 : N < τ2 (-1) 0 := by rw [tN, i7]; omega
      have c4 : τ4 N = τ2 N := kp4.2.2.1 N (by omega) (by omega) (by omega) lt2
      obtain ⟨τ5, e5⟩ : ∃ τ5, ux τ4 N 1 v = τ5 := ⟨_, rfl⟩
      have G5 : xG T n τ5 e := by rw [← e5]; exact y3.wr S4.1 (by decide)
      have X5 : exc τb τ5 := by rw [← e5]; exact (X2.ex kp4).un (by rw [bN]; omega) hN
      have f5 : ∀ y, y ≠ N → τ5 y = τ4 y := fun y h => by rw [← e5]; exact ux_cell h
      have al5 := G5.2.2.2.2.2.1
      have tg4 : tg true τ4 (τ3 7 6) = 2 := by rw [x76]; exact tgf (t := 2) (new_fre hN) S4.1.2
      have bd3 : 0 ≤ τ3 7 6 ∧ ¬ (1438 ≤ τ3 7 6 ∧ τ3 7 6 < 1514) := by rw [x76]; omega
      have e5' : ux τ4 (τ3 7 6) 1 v = τ5 := by rw [x76]; exact e5
      have z0 : i32 0 = 0 := i32_0
      obtain ⟨s5, u5⟩ : ∃ s5, up s4 35 (i32 0) v = s5 := ⟨_, rfl⟩
      have u5o : only [35] s4 s5 := by rw [← u5]; exact only.up (by decide)
      have M5 : mG T n s5 e := k3.of' u5o (by decide)
      have st5 : stk s s5 := by
        refine ((stk.of m2 (by decide)).tr (stk.of k2 (by decide))).tr ?_
        rw [← u5, z0]
        exact stk.wr (Or.inl ⟨rfl, by decide⟩)
      have R5 : rmo (5 + 3) (21 + (4 + 2 * (r - rn qB T n 0))) τ τ5 := by
        have := R2.tr x5
        unfold rmo at *
        rw [f5 (-1) (by omega), y5]
        exact this
      have sg : sgn 59 := by unfold sgn; decide
      have w76 : τ4 7 6 = N := by rw [y2.2.2.2 6 (by decide) (by decide) (by decide)]; exact x76
      have hle3 := rn_le (q := qB) (T := T) (n := n) e
      by_cases c3 : bA T n (rn qB T n e) = 59
      · obtain ⟨v1, v2⟩ := must_t G5 (c := 59) (by decide) c3
        obtain ⟨s6, l1, l2, l3⟩ := m_asksSign_t M5 sg c3
        obtain ⟨pe, epe⟩ : ∃ pe, rn qB T n e + 1 = pe := ⟨_, rfl⟩
        rw [epe] at v1 v2 l3
        obtain ⟨τ6, e6⟩ : ∃ τ6, ux τ5 7 2 pe = τ6 := ⟨_, rfl⟩
        rw [e6] at v1 v2
        have f6 : ∀ y, y ≠ 7 → τ6 y = τ5 y := fun y h => by rw [← e6]; exact ux_cell h
        have E6 : ext τ5 τ6 := by rw [← e6]; exact ext.rf.u7 (Or.inl rfl)
        have v76 : τ6 7 6 = N := by rw [← e6, ux_i _ _ _ _ (by decide), f5 7 (by omega)]; exact w76
        have S5 : cyS τ5 N [] [] := by rw [← e5]; exact (S4.wr (by decide)).1
        have S6 : cyS τ6 N [] [] := S5.kp al5 E6.kps
        have al6 := v2.2.2.2.2.2.1
        obtain ⟨τ7, e7⟩ : ∃ τ7, ux τ6 N 0 1 = τ7 := ⟨_, rfl⟩
        have S7 : cyS τ7 N [] [] := by rw [← e7]; exact (S6.wr (by decide)).1
        obtain ⟨s7, u7⟩ : ∃ s7, up s6 45 0 1 = s7 := ⟨_, rfl⟩
        have o7 : only [45] s6 s7 := by rw [← u7]; exact only.up (by decide)
        have k7 : ∀ k ∈ ([36, 37, 38, 39, 40, 41, 42, 43, 44] : List Nat), s7 k = s k := fun k hk => by
          rw [o7 k (by revert hk; exact (by decide : ∀ k ∈ ([36, 37, 38, 39, 40, 41, 42, 43, 44] : List Nat), k ∉ ([45] : List Nat)) k), l2 k (by revert hk; exact (by decide : ∀ k ∈ ([36, 37, 38, 39, 40, 41, 42, 43, 44] : List Nat), k ∉ ([2] : List Nat)) k), u5o k (by revert hk; exact (by decide : ∀ k ∈ ([36, 37, 38, 39, 40, 41, 42, 43, 44] : List Nat), k ∉ ([35] : List Nat)) k), k2 k (by revert hk; exact (by decide : ∀ k ∈ ([36, 37, 38, 39, 40, 41, 42, 43, 44] : List Nat), k ∉ ([2, 4] : List Nat)) k), m2 k (by revert hk; exact (by decide : ∀ k ∈ ([36, 37, 38, 39, 40, 41, 42, 43, 44] : List Nat), k ∉ ([2, 4] : List Nat)) k)]
        have s745 : s7 45 0 = 1 := by rw [← u7, up_s]
        have s735 : ∀ i : Int, s7 35 i = s5 35 i := fun i => by rw [o7 35 (by decide), l2 35 (by decide)]
        have s350 : s7 35 0 = v := by rw [s735, ← u5, z0, up_s]
        have s351 : s7 35 1 = 0 := by rw [s735, ← u5, z0, up_i _ _ _ _ (by decide), k2 35 (by decide), m2 35 (by decide)]; exact hz.2.2.2.1
        have g7 : ∀ i : Int, i ≠ 0 → i ≠ 1 → τ7 N i = τ1 N i := fun i h0 h1 => by rw [← e7, ux_i _ _ _ _ h0, f6 N (by omega), ← e5, ux_i _ _ _ _ h1, c4, gN]
        have g70 : τ7 N 0 = 1 := by rw [← e7, ux_s]
        have g71 : τ7 N 1 = v := by rw [← e7, ux_i _ _ _ _ (by decide), f6 N (by omega), ← e5, ux_s]
        have C7 : CYR τ7 s7 N 0 [] [] [] [] := by
          refine ⟨S7, ⟨⟨rfl, fun i x w h => by cases h⟩, ⟨?_, by decide, fun i w h => by cases h⟩, by decide⟩, ⟨⟨rfl, fun i x w h => by cases h⟩, ?_, by decide, fun i w h => by cases h⟩, ?_, ⟨Or.inl ⟨?_, ?_⟩, Or.inl ⟨?_, ?_⟩, Or.inl ⟨?_, ?_⟩⟩, ?_⟩
          · rw [k7 36 (by decide)]; exact hz.2.1.1
          · rw [k7 36 (by decide)]; exact hz.2.1.2
          · unfold cyF
            rw [g70, g71, g7 3 (by decide) (by decide), g7 2 (by decide) (by decide), s745, s350, s351, k7 40 (by decide), hz.2.2.1, i9.2.2.1, i9.2.2.2]
            omega
          · rw [g7 6 (by decide) (by decide)]; exact i10.1
          · rw [k7 41 (by decide)]; exact hz.2.2.2.2.1
          · rw [show (6 : Int) + 1 = 7 from rfl, g7 7 (by decide) (by decide)]; exact i10.2.1
          · rw [k7 41 (by decide)]; exact hz.2.2.2.2.2.1
          · rw [show (6 : Int) + 2 = 8 from rfl, g7 8 (by decide) (by decide)]; exact i10.2.2
          · rw [k7 41 (by decide)]; exact hz.2.2.2.2.2.2
          · rw [k7 44 (by decide), hz.1]; decide
        have L7 : LpI T n τb N pe τ7 s7 [] [] [] [] := by
          refine ⟨⟨?_, ?_, ?_⟩, l3.of' o7 (by decide), C7, ?_, ?_⟩
          · rw [← e7]; exact v2.wr S6.1 (by decide)
          · rw [← e7]; exact (X5.ex E6).un (by rw [bN]; omega) hN
          · rw [← e7, ux_cell (by omega), ← e6, ux_i _ _ _ _ (by decide), f5 7 (by omega), y4, x4]; exact h24
          · rw [k7 44 (by decide), hz.1]; omega
          · unfold lsb
            have a1 : τ7 N 4 = N + 1 := by rw [g7 4 (by decide) (by decide)]; exact i11.1
            have a2 : τ7 N 5 = N + 1 + 2 := by rw [g7 5 (by decide) (by decide)]; exact i12.1
            have lk : ∀ y, N < y → y < τ2 (-1) 0 → τ7 y = τ1 y := fun y q1 q2 => by rw [← e7, ux_cell (by omega), f6 y (by omega), f5 y (by omega), kp4.2.2.1 y (by omega) (by omega) (by omega) q2, f2 y (by omega)]
            have t2N : τ2 (-1) 0 = N + 5 := by rw [tN]; exact i7
            rw [bN, a1, a2, lk _ (by omega) (by omega), lk _ (by omega) (by omega), i11.2, i12.2]
            omega
        have tg6 : tg true τ6 (τ6 7 6) = 2 := by rw [v76]; exact tgf (t := 2) (new_fre hN) S6.1.2
        have bd6 : 0 ≤ τ6 7 6 ∧ ¬ (1438 ≤ τ6 7 6 ∧ τ6 7 6 < 1514) := by rw [v76]; omega
        have e7' : ux τ6 (τ6 7 6) 0 1 = τ7 := by rw [v76]; exact e7
        have hpe := v2.2.2.2.2.1
        have R7 : rmo (5 + 3) (21 + (4 + 2 * (r - rn qB T n 0))) τ τ7 := by
          unfold rmo at *
          rw [← e7, ux_cell (by omega), f6 _ (by decide)]
          exact R5
        have n6 : ¬ τ6 7 6 = -1 := by omega
        have st7 : stk s s7 := (st5.tr (stk.of l2 (by decide))).tr (stk.of o7 (by decide))
        have hdT : m_duskTold s = some (0, s6) := by
          unfold m_duskTold
          exact st_bind m1 (st_bind k1 (st_gd o40 (st_be u5 (st_bind l1 rfl))))
        have fu := FU_ge
        rcases all_loop b76 (fun (s53 : XS) => gd (¬ (s53 7 6) = -1) <| some (0, (s53 7 6), s53)) km (n - pe).toNat pe τ7 s7 [] [] [] [] L7 rfl FU FU (by omega) (by omega) with ⟨τ8, s8, es, fs, ws, vs, b1, b2, ⟨b3, b3'⟩, ⟨b4, b4'⟩, b5, b6, b7⟩ | ⟨τ8, s8, b1, b2, kd, pl, ⟨b3, b3'⟩, b4, ⟨b5, b5', b6⟩, b7⟩
        · have g76 : τ8 7 6 = N := by rw [b3.2.2.2 6 (by decide) (by decide) (by decide) (by decide)]; exact b76
          refine Or.inl ⟨τ8, s8, es, fs, ws, vs, ?_, ?_, ⟨exb b3, b3'⟩, ⟨b4, st7.tr b4'⟩, by rw [eN]; exact b5, b6, (R7.tr b7).mono (by omega) (by omega)⟩
          · refine hh ?_
            refine st_bind x1 (st_t rfl (st_gd n3 (st_bind y1 (st_t rfl (st_gd tg4 (st_gd bd3 (st_be e5' (st_bind v1 (st_t rfl (st_gd n6 (st_gd tg6 (st_gd bd6 (st_be e7' (b1.trans (st_gd ?_ ?_)))))))))))))))
            · rw [g76]; omega
            · rw [g76, eN]
          · unfold mAl
            exact st_bind hdT (st_be u7 b2)
        · refine Or.inr ⟨τ8, s8, kd, pl, ?_, ?_, ⟨exb b3, b3'⟩, (R7.tr b4).mono (by omega) (by omega), ⟨st7.tr b5, b5', b6⟩, b7⟩
          · refine hh ?_
            exact st_bind x1 (st_t rfl (st_gd n3 (st_bind y1 (st_t rfl (st_gd tg4 (st_gd bd3 (st_be e5' (st_bind v1 (st_t rfl (st_gd n6 (st_gd tg6 (st_gd bd6 (st_be e7' b1)))))))))))))
          · unfold mAl
            exact st_bind hdT (st_be u7 b2)
      · obtain ⟨τ6, v1, v2, v3⟩ := must_f G5 (c := 59) (by decide) c3
        obtain ⟨s6, l1, l2⟩ := m_asksSign_f M5 sg c3
        have g5 : up s6 45 0 1 5 0 = 1 := by rw [up_row (by decide)]; exact l2.2.1
        refine Or.inr ⟨τ6, up s6 45 0 1, 1, rn qB T n e, ?_, ?_, ⟨exb (v2.exc X5).1, (v2.exc X5).2⟩, ?_, ⟨(st5.tr (stk.of l2.1 (by decide))).tr (stk.of (ks := [45]) (only.up (by decide)) (by decide)), g5, by rw [up_row (by decide)]; exact l2.2.2⟩, by decide, by decide⟩
        · refine hh ?_
          exact st_bind x1 (st_t rfl (st_gd n3 (st_bind y1 (st_t rfl (st_gd tg4 (st_gd bd3 (st_be e5' (st_bind v1 (st_f n_10 rfl)))))))))
        · unfold mAl m_duskTold
          refine st_bind (z := (0, s6)) (st_bind m1 (st_bind k1 (st_gd o40 (st_be u5 (st_bind l1 rfl))))) (st_bnd ?_)
          obtain ⟨f, hf⟩ := FU_s
          rw [hf, m_country_L93]
          exact st_f (nb g5 (by decide)) rfl
        · unfold rmo at *
          rw [v3]
          omega
    · obtain ⟨τ4, y1, y2, y3⟩ := Y2 c2
      obtain ⟨v, s4, k1, k2, k3⟩ := M2 c2
      have hk := tkN_kd c2
      obtain ⟨s5, u5⟩ : ∃ s5, up s4 35 (i32 0) v = s5 := ⟨_, rfl⟩
      have f5 : s5 5 0 = (tkN T n r 1 99).1 := by rw [← u5, up_row (by decide)]; exact k3.2.1
      have f6 : s5 6 0 = (tkN T n r 1 99).2.1 := by rw [← u5, up_row (by decide)]; exact k3.2.2
      have g5 : up s5 45 0 1 5 0 = (tkN T n r 1 99).1 := by rw [up_row (by decide)]; exact f5
      have st5 : stk s s5 := by
        refine ((stk.of m2 (by decide)).tr (stk.of k3.1 (by decide))).tr ?_
        rw [← u5, i32_0]
        exact stk.wr (Or.inl ⟨rfl, by decide⟩)
      refine Or.inr ⟨τ4, up s5 45 0 1, _, _, ?_, ?_, ⟨exb (y2.exc (X2.ex x2)).1, (y2.exc (X2.ex x2)).2⟩, ?_, ⟨st5.tr (stk.of (ks := [45]) (only.up (by decide)) (by decide)), g5, by rw [up_row (by decide)]; exact f6⟩, hk⟩
      · refine hh ?_
        exact st_bind x1 (st_t rfl (st_gd n3 (st_bind y1 (st_f n_10 rfl))))
      · unfold mAl m_duskTold
        refine st_bind (z := (0, s5)) (st_bind m1 (st_bind k1 (st_gd o40 (st_be u5 (st_bind (sign_bad f5 hk) rfl))))) (st_bnd ?_)
        obtain ⟨f, hf⟩ := FU_s
        rw [hf, m_country_L93]
        exact st_f (nb g5 hk) rfl
      · have := R2.tr x5
        unfold rmo at *
        rw [y3]
        omega
  · have c1' : hereW T n (rn qB T n 0) (wo 10) = false := by cases h : hereW T n (rn qB T n 0) (wo 10) with | false => rfl | true => exact absurd h c1
    obtain ⟨τ3, x1, x2, x3⟩ := wordW_f G2 q120 c1'
    obtain ⟨s3, m1, m2⟩ := m_asks_f hM (a := 10) (by decide) c1'
    have hsk := sk_b G2
    obtain ⟨s5, u5⟩ : ∃ s5, up s3 35 (i32 0) 0 = s5 := ⟨_, rfl⟩
    have f5 : s5 5 0 = 1 := by rw [← u5, up_row (by decide)]; exact m2.2.1
    have f6 : s5 6 0 = rn qB T n 0 := by rw [← u5, up_row (by decide)]; exact m2.2.2
    have g5 : up s5 45 0 1 5 0 = 1 := by rw [up_row (by decide)]; exact f5
    have st5 : stk s s5 := by
      refine (stk.of m2.1 (by decide)).tr ?_
      rw [← u5, i32_0]
      exact stk.wr (Or.inl ⟨rfl, by decide⟩)
    refine Or.inr ⟨τ3, up s5 45 0 1, 1, rn qB T n 0, ?_, ?_, ⟨exb (x2.exc X2).1, (x2.exc X2).2⟩, ?_, ⟨st5.tr (stk.of (ks := [45]) (only.up (by decide)) (by decide)), g5, by rw [up_row (by decide)]; exact f6⟩, by decide, by decide⟩
    · refine hh ?_
      exact st_bind x1 (st_f n_10 rfl)
    · unfold mAl m_duskTold
      refine st_bind (z := (0, s5)) (st_bind m1 (st_bind (number_bad m2.2.1 (by decide)) (st_gd o40 (st_be u5 (st_bind (sign_bad f5 (by decide)) rfl))))) (st_bnd ?_)
      obtain ⟨f, hf⟩ := FU_s
      rw [hf, m_country_L93]
      exact st_f (nb g5 (by decide)) rfl
    · have := R2.tr x3
      unfold rmo at *
      omega
end
