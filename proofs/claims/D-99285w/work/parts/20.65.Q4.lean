set_option maxRecDepth 100000
/-! LAYER 2: whether a verb is taken, how well, to which tone it turns: of both -/
def of0 : Int → Int → Int := fun _ _ => 0
theorem onx_nil {τ τ' : XS} (h : onx [] τ τ') : τ' = τ := by funext y; exact h y (by simp)
section
variable {τ τ' : XS} {s s' : MS} {N c : Int} {es fs : List Int} {ws vs : List (List Int)} {n v a u : Int}
theorem st10 {y : Int} (h : dyn y) : y ≠ 10 := by rcases h with h | h <;> omega
/-- asked of the moment, and the law's codes -/
theorem law_pt (hb : lbd s a u) (h10 : ∀ k : Int, alw false k → τ 10 k = lpt (s 48) (s 39) a u k) : ∀ τx, onx (chg false) τ τx → ∀ k : Int, alw false k → (-1000000000 ≤ τx (9 + 1) k ∧ τx (9 + 1) k ≤ 1000000000) ∧ clp (τx (9 + 1) k) = lpt (s 48) (s 39) a u k := fun τx ho k hk => by
  have e := onx_nil ho
  have b := lpt_bd hb k
  rw [e, show (9 : Int) + 1 = 10 from rfl, h10 k hk]
  exact ⟨by omega, clp_id (by omega) (by omega)⟩
theorem lpt_bd1 (hb : lbd s a u) : ∀ k, alw false k → bd1 (lpt (s 48) (s 39) a u k) := fun k _ => by
  have := lpt_bd hb k
  unfold bd1
  omega
theorem can_ok (h : SCR τ s N (τ 0 0) es fs ws vs) (hc : isSt c) (hs : stR τ c (s 48) ws.length vs.length) (ha : 0 ≤ a ∧ a < ws.length) (hu : 0 ≤ u ∧ u < vs.length) :
    ∃ b τ' s', x7_can c a u τ = some (b, τ') ∧ m_canTake a u s = some (b, s') ∧ onx [10] τ τ' ∧ only [47, 50, 102, 103] s s' ∧ b01 b := by
  have hb := h.lbd hs ha hu
  obtain ⟨⟨⟨c0, ct⟩, -, -⟩, -, -, ⟨e1, -, -⟩, -⟩ := id h
  have g1 := dyn_ne c0.1
  have g2 : tg true τ (τ 0 0) = 2 := tgd c0.1 ct
  have i3 : i32 3 = 3 := by decide
  rcases e1 with ⟨q1, q2⟩ | ⟨cs, q1, q2⟩
  · refine ⟨1, τ, s, ?_, ?_, onx.rf, only.rf, Or.inr rfl⟩
    · unfold x7_can
      exact st_gd hc (st_gd g1 (st_gd g2 (st_t q1 rfl)))
    · unfold m_canTake
      exact st_gd (by decide) (st_bnd (st_t (by rw [i3, q2]) rfl))
  · obtain ⟨τ1, a1, a2, a3⟩ := asks_ev h hc hs ha hu
    have k1 : ∀ y, dyn y → τ1 y = τ y := fun y hy => a2 y (by simpa using st10 hy)
    have k0 : τ1 0 = τ 0 := a2 0 (by decide)
    have X1 : XT τ1 (dnN N) false 15 (τ (τ 0 0) 6) cs := XT_kept (fun y hy => k1 y hy.1) (fun _ h => h) _ _ _ q1
    obtain ⟨x, τ2, b1, b2, b3, b4⟩ := x_ho_ev τ1 (dnN N) 9 false (lpt (s 48) (s 39) a u) of0 0 dnN_dyn (by decide) (Or.inl rfl) (law_pt hb a3) (fun h => by cases h) _ _ _ X1 τ1 onx.rf 64 (by decide)
    have e2 := onx_nil b2
    rw [e2] at b1
    obtain ⟨y, c1, c2⟩ := XT_B (of := of0) (lpt_bd1 hb) _ _ _ q1
    have exy := isB_V c2 b3
    rw [exy] at c1 c2
    obtain ⟨s1, d1, d2⟩ := codesTell_ev (wh := 0) (by decide) q2 hb c2
    have n6 : ¬ τ (τ 0 0) 6 = -1 := dyn_ne (XT_dyn q1).1
    have m3 : ¬ i32 (s 41 (i32 3)) = i32 (-1) := by
      rw [i3]
      have := q2.1
      have l0 : (0 : Int) ≤ cs.length := by omega
      rw [show (3 : Int) + 0 = 3 from rfl] at this
      rw [i32_id (by omega) (by omega), i32_id (by omega) (by omega)]
      omega
    have bzx : bz x := by rcases b4 with r | r <;> rw [r] <;> decide
    refine ⟨x, τ1, s1, ?_, ?_, a2, d2, b4⟩
    · unfold x7_can
      refine st_gd hc (st_gd g1 (st_gd g2 (st_f n6 (st_bind a1 (st_gd ?_ (st_gd ?_ (st_gd ?_ (st_bind (z := (x, τ1)) ?_ (st_gd bzx rfl)))))))))
      · try dsimp only
        rw [k0]; exact g1
      · try dsimp only
        rw [k0]; exact tgd c0.1 (by rw [k1 _ c0.1]; exact ct)
      · try dsimp only
        rw [k0, k1 _ c0.1]; exact n6
      · try dsimp only
        rw [k0, k1 _ c0.1]; exact b1
    · unfold m_canTake
      refine st_gd (by decide) (st_bnd (st_f m3 (st_bind d1 ?_)))
      rcases b4 with r | r
      · rw [r]; exact st_f (show ¬ i64 0 = i64 1 by decide) rfl
      · rw [r]; exact st_t (show i64 1 = i64 1 by decide) rfl
theorem lawS_ok {k i : Int} (hk : (k = 1 ∧ i = 7) ∨ (k = 2 ∧ i = 8)) {m : Nat} (hm : 21 ≤ m) (h : SCR τ s N (τ 0 0) es fs ws vs) (hc : isSt c) (hs : stR τ c (s 48) ws.length vs.length) (ha : 0 ≤ a ∧ a < ws.length) (hu : 0 ≤ u ∧ u < vs.length) :
    (τ (τ 0 0) i = -1 ∧ i32 (s 41 (3 + k)) = i32 (-1)) ∨ ((¬ τ (τ 0 0) i = -1 ∧ ¬ i32 (s 41 (3 + k)) = i32 (-1)) ∧ ∃ x τ1 s1, x7_asks c a u τ = some (0, τ1) ∧ x_at m (τ (τ 0 0) i) 9 τ1 = some (x, τ1) ∧ onx [10] τ τ1 ∧ m_codesTell k a u s = some (x, s1) ∧ only [47, 50, 102, 103] s s1 ∧ bd1 x) := by
  have hb := h.lbd hs ha hu
  obtain ⟨⟨⟨c0, ct⟩, -, -⟩, -, -, ⟨-, e1, e2⟩, -⟩ := id h
  have main : ((τ (τ 0 0) i = -1 ∧ s 41 (3 + k) = -1) ∨ ∃ cs, XV τ (dnN N) false 21 (τ (τ 0 0) i) cs ∧ cdS s k cs) := by
    rcases hk with ⟨rfl, rfl⟩ | ⟨rfl, rfl⟩
    · exact e1
    · exact e2
  have hk3 : 0 ≤ k ∧ k < 3 := by omega
  rcases main with ⟨q1, q2⟩ | ⟨cs, q1, q2⟩
  · exact Or.inl ⟨q1, by rw [q2]⟩
  · refine Or.inr ⟨⟨dyn_ne (XV_dyn q1).1, ?_⟩, ?_⟩
    · have := q2.1
      have l0 : (0 : Int) ≤ cs.length := by omega
      rw [i32_id (by omega) (by omega), i32_id (by omega) (by omega)]
      omega
    obtain ⟨τ1, a1, a2, a3⟩ := asks_ev h hc hs ha hu
    have k1 : ∀ y, dyn y → τ1 y = τ y := fun y hy => a2 y (by simpa using st10 hy)
    have X1 : XV τ1 (dnN N) false 21 (τ (τ 0 0) i) cs := XV_kept (fun y hy => k1 y hy.1) _ _ _ q1
    obtain ⟨x, τ2, b1, b2, b3, b4⟩ := x_at_ev τ1 (dnN N) 9 false (lpt (s 48) (s 39) a u) of0 0 dnN_dyn (Or.inl rfl) (law_pt hb a3) (fun h => by cases h) _ _ _ X1 τ1 onx.rf m (by omega)
    rw [onx_nil b2] at b1
    obtain ⟨y, c1, c2⟩ := XV_B (of := of0) (lpt_bd1 hb) _ _ _ q1
    have exy := isB_V c2 b3
    rw [exy] at c1 c2
    obtain ⟨s1, d1, d2⟩ := codesTell_ev hk3 q2 hb c2
    exact ⟨x, τ1, s1, a1, b1, a2, d1, d2, c1⟩
theorem well_ok {m : Nat} (hm : 21 ≤ m) (h : SCR τ s N (τ 0 0) es fs ws vs) (hc : isSt c) (hs : stR τ c (s 48) ws.length vs.length) (ha : 0 ≤ a ∧ a < ws.length) (hu : 0 ≤ u ∧ u < vs.length) :
    ∃ x τ' s', x7_well (x_at m) c a u τ = some (x, τ') ∧ m_wellOf a u s = some (x, s') ∧ onx [10] τ τ' ∧ only [47, 50, 102, 103] s s' ∧ bd1 x := by
  have hb := h.lbd hs ha hu
  obtain ⟨⟨⟨c0, ct⟩, l1, l2⟩, ⟨⟨a1, a2, a3⟩, b1, b2, b3⟩, -⟩ := id h
  have g1 := dyn_ne c0.1
  have g2 : tg true τ (τ 0 0) = 2 := tgd c0.1 ct
  have i4 : i32 4 = 4 := by decide
  have i34 : (3 : Int) + 1 = 4 := rfl
  rcases lawS_ok (k := 1) (i := 7) (Or.inl ⟨rfl, rfl⟩) hm h hc hs ha hu with ⟨q1, q2⟩ | ⟨⟨q1, q2⟩, x, τ1, s1, d1, d2, d3, d4, d5, d6⟩
  · rw [i34] at q2
    have hl : u.toNat < fs.length := by rw [b1.1]; omega
    have hl2 : u.toNat < vs.length := by omega
    obtain ⟨x, ex⟩ : ∃ x, fs[u.toNat] = x := ⟨_, rfl⟩
    have gx : fs[u.toNat]? = some x := by rw [List.getElem?_eq_getElem hl, ex]
    obtain ⟨⟨x0, xt⟩, -, -, w1, w2⟩ := b1.2 u.toNat _ _ gx (List.getElem?_eq_getElem hl2)
    have eu : ((u.toNat : Nat) : Int) = u := by omega
    rw [eu] at w2
    have gg := get_ev dnN_dyn l2 gx
    rw [eu] at gg
    have iu : i32 (15 + 2 * u) = 15 + 2 * u := i32_id (by omega) (by omega)
    have z5 := l2.1.1.1
    refine ⟨τ x 2, τ, s, ?_, ?_, onx.rf, only.rf, by unfold bd1; omega⟩
    · unfold x7_well
      refine st_gd hc (st_gd g1 (st_gd g2 (st_t q1 (st_gd g1 (st_gd g2 (st_gd (dyn_ne z5) (st_gd (tgd z5 l2.1.2) (st_bind gg (st_gd (tgd x0 xt) (st_gd (tgd x0 xt) ?_))))))))))
      dsimp only
      rw [i32_id (by omega) (by omega)]
    · unfold m_wellOf
      refine st_gd (by decide) (st_t (by rw [i4]; exact q2) (st_gd ?_ ?_))
      · unfold ok; rw [iu]; omega
      · rw [iu, ← w2.1, i32_id (by omega) (by omega)]
  · rw [i34] at q2
    have k1 : ∀ y, dyn y → τ1 y = τ y := fun y hy => d3 y (by simpa using st10 hy)
    have k0 : τ1 0 = τ 0 := d3 0 (by decide)
    refine ⟨x, τ1, s1, ?_, ?_, d3, d5, d6⟩
    · unfold x7_well
      refine st_gd hc (st_gd g1 (st_gd g2 (st_f q1 (st_bind d1 (st_gd ?_ (st_gd ?_ (st_gd ?_ (st_bind (z := (x, τ1)) ?_ rfl))))))))
      · try dsimp only
        rw [k0]; exact g1
      · try dsimp only
        rw [k0]; exact tgd c0.1 (by rw [k1 _ c0.1]; exact ct)
      · try dsimp only
        rw [k0, k1 _ c0.1]; exact q1
      · try dsimp only
        rw [k0, k1 _ c0.1]; exact d2
    · unfold m_wellOf
      exact st_gd (by decide) (st_f (by rw [i4]; exact q2) (st_bind d4 rfl))
/-- the rest of a giving: how the tone turns -/
noncomputable def xTn (c a u : Int) (s11 : XS) : Option (Int × XS) :=
  gd (¬ (s11 0 0) = -1) <|
  gd (tg true s11 (s11 0 0) = 2) <|
  if (s11 (s11 0 0) 8) = -1 then
    some (0, s11)
  else
    Option.bind (x7_asks c a u s11) fun z15 =>
    gd (¬ (z15.2 0 0) = -1) <|
    gd (tg true z15.2 (z15.2 0 0) = 2) <|
    gd (¬ (z15.2 (z15.2 0 0) 8) = -1) <|
    Option.bind (x_at 64 (z15.2 (z15.2 0 0) 8) 9 z15.2) fun z19 =>
    Option.bind (j12_min_2 true 9 z19.1 z19.2) fun z20 =>
    Option.bind (j12_max_2 true 0 z20.1 z20.2) fun z21 =>
    gd (ok 6 a) <|
    bnd (ux z21.2 (c + 3) (i32 a) z21.1) fun s23 =>
    some (0, s23)
theorem turn_ok (h : SCR τ s N (τ 0 0) es fs ws vs) (hc : isSt c) (hs : stR τ c (s 48) ws.length vs.length) (ha : 0 ≤ a ∧ a < ws.length) (hu : 0 ≤ u ∧ u < vs.length) :
    ∃ x τ' s', xTn c a u τ = some (0, τ') ∧ m_turnedOf a u s = some (x, s') ∧ onx [10, c + 3] τ τ' ∧ (τ' (c + 3) a = x ∧ ∀ j, j ≠ a → τ' (c + 3) j = τ (c + 3) j) ∧ only [47, 50, 102, 103] s s' ∧ (0 ≤ x ∧ x ≤ 9) := by
  have hb := h.lbd hs ha hu
  obtain ⟨⟨⟨c0, ct⟩, l1, l2⟩, ⟨⟨a1, a2, a3⟩, b1, b2, b3⟩, -⟩ := id h
  have g1 := dyn_ne c0.1
  have g2 : tg true τ (τ 0 0) = 2 := tgd c0.1 ct
  have i5 : i32 5 = 5 := by decide
  have i34 : (3 : Int) + 2 = 5 := rfl
  have hst := isSt_b hc
  have hS := (hs.2.2 a ha.1 ha.2).2.2.1
  have ia : i32 a = a := i32_id (by omega) (by omega)
  rcases lawS_ok (k := 2) (i := 8) (m := 64) (Or.inr ⟨rfl, rfl⟩) (by decide) h hc hs ha hu with ⟨q1, q2⟩ | ⟨⟨q1, q2⟩, x, τ1, s1, d1, d2, d3, d4, d5, d6⟩
  · rw [i34] at q2
    have i2 : i32 (8 + 10 * a + 2) = 8 + 10 * a + 2 := i32_id (by omega) (by omega)
    refine ⟨s 48 (8 + 10 * a + 2), τ, s, ?_, ?_, onx.rf, ⟨hS.1, fun _ _ => rfl⟩, only.rf, hS.2⟩
    · unfold xTn
      exact st_gd g1 (st_gd g2 (st_t q1 rfl))
    · unfold m_turnedOf
      refine st_gd (by decide) (st_t (by rw [i5]; exact q2) (st_bind (z := (s 48 (8 + 10 * a + 2), s)) ?_ rfl))
      unfold m_toneOf
      refine st_gd ?_ ?_
      · unfold ok; rw [i2]; omega
      · rw [i2]
  · rw [i34] at q2
    have k1 : ∀ y, dyn y → τ1 y = τ y := fun y hy => d3 y (by simpa using st10 hy)
    have k0 : τ1 0 = τ 0 := d3 0 (by decide)
    have kc : τ1 (c + 3) = τ (c + 3) := d3 (c + 3) (by simp; omega)
    unfold bd1 at d6
    have ix : i64 x = x := i64_id (by omega) (by omega)
    have i9 : i64 9 = 9 := by decide
    have z0 : i64 0 = 0 := by decide
    obtain ⟨y, ey⟩ : ∃ y, (if x < 9 then x else 9) = y := ⟨_, rfl⟩
    have hy : y ≤ 9 ∧ -1000000 ≤ y := by rw [← ey]; split <;> omega
    have iy : i64 y = y := i64_id (by omega) (by omega)
    obtain ⟨z, ez⟩ : ∃ z, (if 0 < y then y else 0) = z := ⟨_, rfl⟩
    have mn : j12_min_2 true 9 x τ1 = some (y, τ1) := by
      unfold j12_min_2
      rw [ix, i9, ← ey]
      split <;> rfl
    have mx : j12_max_2 true 0 y τ1 = some (z, τ1) := by
      unfold j12_max_2
      rw [iy, z0, ← ez]
      split <;> rfl
    have hz : 0 ≤ z ∧ z ≤ 9 := by rw [← ez]; split <;> omega
    have hzx : z = if 0 ≤ x then if x ≤ 9 then x else 9 else 0 := by
      have y1 : (x < 9 → y = x) ∧ (¬ x < 9 → y = 9) := by rw [← ey]; exact ⟨fun h => if_pos h, fun h => if_neg h⟩
      have z1 : (0 < y → z = y) ∧ (¬ 0 < y → z = 0) := by rw [← ez]; exact ⟨fun h => if_pos h, fun h => if_neg h⟩
      split
      · split <;> omega
      · omega
    refine ⟨z, ux τ1 (c + 3) a z, s1, ?_, ?_, ?_, ⟨by rw [ux_s], fun j hj => ?_⟩, d5, hz⟩
    · unfold xTn
      refine st_gd g1 (st_gd g2 (st_f q1 (st_bind d1 (st_gd ?_ (st_gd ?_ (st_gd ?_ (st_bind (z := (x, τ1)) ?_ (st_bind mn (st_bind mx (st_gd ?_ (st_bnd ?_)))))))))))
      · try dsimp only
        rw [k0]; exact g1
      · try dsimp only
        rw [k0]; exact tgd c0.1 (by rw [k1 _ c0.1]; exact ct)
      · try dsimp only
        rw [k0, k1 _ c0.1]; exact q1
      · try dsimp only
        rw [k0, k1 _ c0.1]; exact d2
      · unfold ok; rw [ia]; omega
      · try dsimp only
        rw [ia]
    · unfold m_turnedOf
      refine st_gd (by decide) (st_f (by rw [i5]; exact q2) (st_bind d4 (st_bnd ?_)))
      dsimp only
      rw [ix, i9, z0, hzx]
      split
      · split <;> rfl
      · rfl
    · intro w hw
      simp at hw
      rw [ux_cell hw.2]
      exact d3 w (by simpa using hw.1)
    · rw [ux_i _ _ _ _ hj, kc]
end
