set_option maxRecDepth 100000
/-! LAYER 2: all statements of a country, both; a new country of the system -/
section
variable {T : Int → Int} {n p q : Int} {τb τ τ' : XS} {s s' s0 : MS} {c : Int}
theorem all_loop (hb6 : τb 7 6 = c) (kx : XS → Option RX) (km : MS → Option (Int × MS)) : ∀ (d : Nat) (p : Int) (τ : XS) (s : MS) (es fs : List Int) (ws vs : List (List Int)), LpI T n τb c p τ s es fs ws vs → (n - p).toNat = d → ∀ fx fm : Nat, d < fx → d < fm →
    (∃ τ' s' es fs ws vs, x2_all_L60 kx fx τ = kx τ' ∧ m_country_L93 km fm s = km s' ∧ (exc τb τ' ∧ al τ') ∧ ((s' 5 0 = 0 ∧ s' 6 0 = -1) ∧ stk s s') ∧ CYR τ' s' c 0 es fs ws vs ∧ s' 44 0 ≤ n ∧ rmo (60 * (n - p)) (500 * (n - p)) τ τ') ∨
    (∃ τ' s', x2_all_L60 kx fx τ = some (1, 0, τ') ∧ m_country_L93 km fm s = km s' ∧ FlR T n τb (60 * (n - p) + 100) (500 * (n - p) + 600) τ s τ' s') := by
  intro d
  induction d using Nat.strongRecOn with
  | ind d ih =>
    intro p τ s es fs ws vs hL hd fx fm hfx hfm
    obtain ⟨⟨hG, hb, h4⟩, hM, hC, h44, hcb⟩ := id hL
    have hp := hG.2.2.2.2.1
    have hal := hG.2.2.2.2.2.1
    have hsk := sk_b hG
    have hle := rn_le (q := qB) (T := T) (n := n) p
    obtain ⟨fx', rfl⟩ : ∃ f, fx = f + 1 := ⟨fx - 1, by omega⟩
    obtain ⟨fm', rfl⟩ : ∃ f, fm = f + 1 := ⟨fm - 1, by omega⟩
    have x1 := here_ev hG
    obtain ⟨s1, m1, m2, m3⟩ := m_look_ev hM
    have u7 : ext τ (ux τ 7 2 (rn qB T n p)) := ext.rf.u7 (Or.inl rfl)
    have bb := bA_b hG.1 (rn qB T n p)
    have C1 : CYR (ux τ 7 2 (rn qB T n p)) s1 c 0 es fs ws vs := hC.keep hal u7 (fun k hk => m2 k (by revert hk; exact (by decide : ∀ k ∈ cyk, k ∉ ([2] : List Nat)) k))
    have i5 : i32 (s 5 0) = 0 := by rw [hM.2.2.2.2.1]; exact i32_0
    have st1 : stk s s1 := stk.of m2 (by decide)
    have h44' : s1 44 0 = s 44 0 := by rw [m2 44 (by decide)]
    by_cases he : bA T n (rn qB T n p) = -1
    · refine Or.inl ⟨ux τ 7 2 (rn qB T n p), s1, es, fs, ws, vs, ?_, ?_, ⟨hb.ex u7, hal.u (by decide) (by decide)⟩, ⟨⟨m3.2.2.2.2.1, m3.2.2.2.2.2.2.2.2.2⟩, st1⟩, C1, by omega, ?_⟩
      · rw [all_L60]
        exact st_bind x1 (st_t (by rw [he]) rfl)
      · rw [m_country_L93]
        exact st_t i5 (st_bind m1 (st_t (by rw [he]) rfl))
      · unfold rmo
        rw [u7_N, u7_N]
        omega
    · have ne : ¬ i32 (bA T n (rn qB T n p)) = i32 (-1) := by rw [i32_id (by omega) (by omega), i32_id (by omega) (by omega)]; exact he
      have hqn := bA_at he
      have L1 : LpI T n τb c (rn qB T n p) (ux τ 7 2 (rn qB T n p)) s1 es fs ws vs := ⟨⟨hG.to hsk, hb.ex u7, by rw [ux_i _ _ _ _ (by decide)]; exact h4⟩, m3, C1, by omega, hcb.kp hal hC.1 u7.kps⟩
      have R1 : rmo 0 0 τ (ux τ 7 2 (rn qB T n p)) := by unfold rmo; rw [u7_N, u7_N]; omega
      rcases stat_ok L1 (sk_sk T n p) hb6 with ⟨τ2, s2, p2, es2, fs2, ws2, vs2, a1, a2, a3, a4, a5, a6⟩ | ⟨τ2, s2, a1, a2, kd, pl, a3, a4, ⟨a5, a6⟩, a7⟩
      · have hp2 := a3.1.1.2.2.2.2.1
        rcases ih (n - p2).toNat (by omega) p2 τ2 s2 es2 fs2 ws2 vs2 a3 rfl fx' fm' (by omega) (by omega) with ⟨τ3, s3, es3, fs3, ws3, vs3, b1, b2, b3, ⟨b4, b4'⟩, b5, b6, b7⟩ | ⟨τ3, s3, b1, b2, kd, pl, b3, b4, ⟨b5, b6⟩, b7⟩
        · refine Or.inl ⟨τ3, s3, es3, fs3, ws3, vs3, ?_, ?_, b3, ⟨b4, (st1.tr a4).tr b4'⟩, b5, b6, ((R1.tr a6).tr b7).mono (by omega) (by omega)⟩
          · rw [all_L60]
            exact st_bind x1 (st_f ne ((a1 _).trans b1))
          · rw [m_country_L93]
            exact st_t i5 (st_bind m1 (st_f ne (st_bind a2 b2)))
        · refine Or.inr ⟨τ3, s3, ?_, ?_, kd, pl, b3, ((R1.tr a6).tr b4).mono (by omega) (by omega), ⟨(st1.tr a4).tr b5, b6⟩, b7⟩
          · rw [all_L60]
            exact st_bind x1 (st_f ne ((a1 _).trans b1))
          · rw [m_country_L93]
            exact st_t i5 (st_bind m1 (st_f ne (st_bind a2 b2)))
      · refine Or.inr ⟨τ2, s2, ?_, ?_, kd, pl, a3, (R1.tr a4).mono (by omega) (by omega), ⟨st1.tr a5, a6⟩, a7⟩
        · rw [all_L60]
          exact st_bind x1 (st_f ne (a1 _))
        · rw [m_country_L93]
          refine st_t i5 (st_bind m1 (st_f ne (st_bind a2 ?_)))
          obtain ⟨g, rfl⟩ : ∃ g, fm' = g + 1 := ⟨fm' - 1, by omega⟩
          rw [m_country_L93]
          exact st_f (nb a6.1 a7) rfl
theorem newCountry_ev (ha : al τ) : ∃ τ', x1_init true (τ (-1) 0) (nwx τ 2 0 9 (dfl 2)) = some (0, τ') ∧ ext τ τ' ∧ al τ' ∧ cyS τ' (τ (-1) 0) [] [] ∧ (τ' 7 = τ 7 ∧ τ' 8 = τ 8) ∧ (τ' (-1) 0 = τ (-1) 0 + 5 ∧ τ' (-1) 1 = τ (-1) 1 + 21) ∧ (τ' (τ (-1) 0) 0 = 0 ∧ τ' (τ (-1) 0) 1 = 0 ∧ τ' (τ (-1) 0) 2 = 0 ∧ τ' (τ (-1) 0) 3 = 0) ∧ (τ' (τ (-1) 0) 6 = -1 ∧ τ' (τ (-1) 0) 7 = -1 ∧ τ' (τ (-1) 0) 8 = -1) ∧ (τ' (τ (-1) 0) 4 = τ (-1) 0 + 1 ∧ τ' (τ (-1) 0 + 1) 1 = τ (-1) 0 + 1 + 1) ∧ τ' (τ (-1) 0) 5 = τ (-1) 0 + 1 + 2 ∧ τ' (τ (-1) 0 + 1 + 2) 1 = τ (-1) 0 + 1 + 2 + 1 := by
  have hN := ha.1
  have hS := ha.2.1
  obtain ⟨s2, n1, n2, n3, n4, n5, n6, n7, n8, n9⟩ := nwx_all ha 2 0 (sl := 9) (dfl 2) (by omega)
  obtain ⟨s4, a1, a2, a3, a4, a5, a6, a7, a8, a9, a10, a11⟩ := newList_ev n2 (k := 2) (by omega)
  rw [n7] at a1 a3 a4 a7 a8 a9 a10 a11
  obtain ⟨s8, e8⟩ : ∃ s, ux s4 (τ (-1) 0) 4 (τ (-1) 0 + 1) = s := ⟨_, rfl⟩
  have al8 : al s8 := by rw [← e8]; exact a2.u (by omega) (by omega)
  have f8 : ∀ c, c ≠ τ (-1) 0 → s8 c = s4 c := fun c hc => by rw [← e8]; exact ux_cell hc
  obtain ⟨s11, b1, b2, b3, b4, b5, b6, b7, b8, b9, b10, b11⟩ := newList_ev al8 (k := 4) (by omega)
  rw [f8 (-1) (by omega), a4] at b1 b3 b4 b7 b8 b9 b10 b11
  rw [f8 (-1) (by omega)] at b5 b6
  have g2 := tgf (τ := s4) (t := 2) (new_fre hN) (by rw [a3 _ (by omega) (by omega)]; exact n4)
  have e11 : s11 (τ (-1) 0) = s8 (τ (-1) 0) := b3 _ (by omega) (by omega)
  have g11 := tgf (τ := s11) (t := 2) (new_fre hN) (by rw [e11, ← e8, ux_i _ _ _ _ (by decide), a3 _ (by omega) (by omega)]; exact n4)
  have nn1 : 0 ≤ s2 (-1) 0 ∧ 0 ≤ s2 (-1) 1 := by rw [n7, n8]; omega
  have nn2 : 0 ≤ s8 (-1) 0 ∧ 0 ≤ s8 (-1) 1 := by rw [f8 (-1) (by omega), a4, a5, n8]; omega
  have q1 := fre_ne (new_fre (show 1514 ≤ τ (-1) 0 + 1 by omega))
  have q2 := fre_ne (new_fre (show 1514 ≤ τ (-1) 0 + 1 + 2 by omega))
  obtain ⟨t, et⟩ : ∃ s, ux s11 (τ (-1) 0) 5 (τ (-1) 0 + 1 + 2) = s := ⟨_, rfl⟩
  have ft : ∀ c, c ≠ τ (-1) 0 → t c = s11 c := fun c hc => by rw [← et]; exact ux_cell hc
  have t4 : t (τ (-1) 0) 4 = τ (-1) 0 + 1 := by rw [← et, ux_i _ _ _ _ (by decide), e11, ← e8, ux_s]
  have t5 : t (τ (-1) 0) 5 = τ (-1) 0 + 1 + 2 := by rw [← et, ux_s]
  have td : ∀ i : Int, i ≠ 4 → i ≠ 5 → t (τ (-1) 0) i = s2 (τ (-1) 0) i := fun i h1 h2 => by rw [← et, ux_i _ _ _ _ h2, e11, ← e8, ux_i _ _ _ _ h1, a3 _ (by omega) (by omega)]
  have tN : t (-1) 0 = τ (-1) 0 + 5 := by rw [ft _ (by omega), b4]; omega
  have c1 : t (τ (-1) 0 + 1) = s4 (τ (-1) 0 + 1) := by rw [ft _ (by omega), b3 _ (by omega) (by omega), f8 _ (by omega)]
  have c2 : t (τ (-1) 0 + 1 + 1) = s4 (τ (-1) 0 + 1 + 1) := by rw [ft _ (by omega), b3 _ (by omega) (by omega), f8 _ (by omega)]
  have c3 : t (τ (-1) 0 + 1 + 2) = s11 (τ (-1) 0 + 1 + 2) := ft _ (by omega)
  have c4 : t (τ (-1) 0 + 1 + 2 + 1) = s11 (τ (-1) 0 + 1 + 2 + 1) := ft _ (by omega)
  have low : ∀ y, y ≠ -1 → y < τ (-1) 0 → t y = τ y := fun y y1 y2 => by rw [ft y (by omega), b3 y y1 (by omega), f8 y (by omega), a3 y y1 (by omega), n9 y (by omega) y1]
  have bd : 0 ≤ τ (-1) 0 ∧ ¬ (1438 ≤ τ (-1) 0 ∧ τ (-1) 0 < 1514) := by omega
  refine ⟨t, ?_, ?_, ?_, ?_, ⟨low 7 (by omega) (by omega), low 8 (by omega) (by omega)⟩, ⟨tN, by rw [ft _ (by omega), b5, a5, n8]; omega⟩, ⟨?_, ?_, ?_, ?_⟩, ⟨?_, ?_, ?_⟩, ⟨t4, by rw [c1, a8]⟩, t5, by rw [c3, b8]⟩
  · unfold x1_init
    rw [n1]
    refine st_gd nn1 (st_bnd ?_)
    rw [n7]
    refine st_bind a1 (st_gd g2 (st_gd bd (st_gd q1 (st_be e8 (st_gd nn2 (st_bnd ?_))))))
    rw [f8 (-1) (by omega), a4]
    exact st_bind b1 (st_gd g11 (st_gd bd (st_gd q2 (st_be et rfl))))
  · refine ⟨⟨by omega, by rw [ft _ (by omega), b5, a5, n8]; omega⟩, fun i hi => by rw [ft _ (by omega), b6 i hi, a6 i hi, n3.2.1 i hi], fun c d1 d2 d3 d4 => low c d1 d4, fun i d1 d2 d3 => by rw [low 7 (by omega) (by omega)]⟩
  · rw [← et]; exact b2.u (by omega) (by omega)
  · unfold cyS
    rw [t4, t5, c1, c3, a8, b8, c2, c4]
    refine ⟨⟨hN, by rw [td _ (by decide) (by decide)]; exact n4⟩, ⟨by omega, by omega⟩, ⟨?_, by rw [a11]; decide⟩, ?_, by rw [b11]; decide⟩
    · unfold lstX nwc
      rw [c1, a8, c2]
      exact ⟨⟨by omega, a7⟩, ⟨by omega, a10⟩, a9, by rw [a11]; decide, by rw [a11]; decide, fun i x hi => by cases hi⟩
    · unfold lstX nwc
      rw [c3, b8, c4]
      exact ⟨⟨by omega, b7⟩, ⟨by omega, b10⟩, b9, by rw [b11]; decide, by rw [b11]; decide, fun i x hi => by cases hi⟩
  all_goals
    rw [td _ (by decide) (by decide), n6 _ (by decide)]
    decide
end
