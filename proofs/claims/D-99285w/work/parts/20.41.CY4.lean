set_option maxRecDepth 100000
/-! LAYER 2: the statement of a lent verb -/
section
variable {T : Int → Int} {n p : Int} {τb τ τ' : XS} {s s' s0 : MS} {c : Int}
theorem fnd_lt (w : List Int) : ∀ (ws : List (List Int)) (i : Int), 0 ≤ i → fnd w ws i ≠ -1 → i ≤ fnd w ws i ∧ fnd w ws i < i + ws.length
  | [], i, _, h => absurd rfl h
  | v :: vs, i, hi, h => by
    rw [fnd] at h ⊢
    by_cases q : v = w
    · rw [if_pos q]; simp; omega
    · rw [if_neg q] at h ⊢
      have := fnd_lt w vs (i + 1) (by omega) h
      simp; omega
theorem lent7_any (K : Int → MS → Option (Int × MS)) {v : Int} {ws : List (List Int)} (h : wdsM s 1 ws) : ∀ (d fuel i : Nat), i + d = ws.length → d < fuel → ∃ j, m_lentTold0_L7 K fuel v i s = K j s := by
  obtain ⟨h1, h2, h3⟩ := h
  have o41 : ok 4 1 := by decide
  have z1 : i32 1 = 1 := by decide
  intro d
  induction d with
  | zero =>
    intro fuel i hd hf
    obtain ⟨f, rfl⟩ : ∃ f, fuel = f + 1 := ⟨fuel - 1, by omega⟩
    rw [m_lentTold0_L7]
    refine ⟨(i : Int), st_gd o41 (st_t ?_ rfl)⟩
    rw [z1, h1, i32_id (by omega) (by omega), i32_id (by omega) (by omega)]
    omega
  | succ d ih =>
    intro fuel i hd hf
    obtain ⟨f, rfl⟩ : ∃ f, fuel = f + 1 := ⟨fuel - 1, by omega⟩
    obtain ⟨j, hj⟩ := ih f (i + 1) (by omega) (by omega)
    have nl : ¬ i32 (s 36 (i32 1)) ≤ i32 (i : Int) := by
      rw [z1, h1, i32_id (by omega) (by omega), i32_id (by omega) (by omega)]
      omega
    have ok8 : ok 32 (8 + (i : Int)) := by unfold ok; rw [i32_id (by omega) (by omega)]; omega
    rw [m_lentTold0_L7]
    by_cases cx : i64 (s 37 (i32 (8 + (i : Int)))) = i64 v
    · exact ⟨(i : Int), st_gd o41 (st_f nl (st_gd ok8 (st_t cx rfl)))⟩
    · refine ⟨j, st_gd o41 (st_f nl (st_gd ok8 (st_f cx (st_bnd ?_))))⟩
      rw [show ((i : Int) + 1) = ((i + 1 : Nat) : Int) by omega]
      exact hj
theorem CYR.verbs {es fs : List Int} {ws vs : List (List Int)} {d : Int} (h : CYR τ s c d es fs ws vs) : nmsX τ nwc (τ c 5) fs vs := by
  have q := h.2.2.1.1
  have l := h.2.2.1.2.2.1
  refine ⟨h.1.2.2.2.1, q.1, by have := q.1; omega, fun i x w e1 e2 => ?_⟩
  have k := q.2 i x w e1 e2
  exact ⟨⟨Or.inr k.1.1, Or.inr k.1.2⟩, k.2.1⟩
theorem CYR.sayings {es fs : List Int} {ws vs : List (List Int)} {d : Int} (h : CYR τ s c d es fs ws vs) : nmsX τ nwc (τ c 4) es ws := by
  have q := h.2.1.1
  have l := h.2.1.2.2
  refine ⟨h.1.2.2.1.1, q.1, by have := q.1; omega, fun i x w e1 e2 => ?_⟩
  have k := q.2 i x w e1 e2
  exact ⟨⟨Or.inr k.1.1, Or.inl k.1.2⟩, k.2.1⟩
theorem set_b7 {a o : Int} (ha : 0 ≤ a ∧ a < 128) (ho : 0 ≤ o ∧ o < 7) : 0 ≤ ior a (ishl 1 o) ∧ ior a (ishl 1 o) < 128 := fin2 (P := fun a o => 0 ≤ ior a (ishl 1 o) ∧ ior a (ishl 1 o) < 128) (by decide +kernel) ha ho
/-- the reference's rest, with a fault already -/
theorem lent_ok {pl : Int} {es fs : List Int} {ws vs : List (List Int)} (hG : xG T n τ p) (hM : mG T n s p) (hb : exc τb τ) (h4 : τ 7 4 = 0) (h6 : τ 7 6 = c) (hcb : lsb τb τ c) (hC : CYR τ s c 1 es fs ws vs) (h44 : s 44 0 ≤ p) :
    StR 1 T n τb c p τ s (xN2 pl 2 τ) (m_lentTold0 s) := by
  have o41 : ok 4 1 := by decide
  have z1 : i32 1 = 1 := by decide
  have hp := hG.2.2.2.2.1
  have hle := rn_le (q := qB) (T := T) (n := n) p
  have hc := hC.1
  have c0 := hc.1.1
  have hal := hG.2.2.2.2.2.1
  obtain ⟨X1, X2⟩ := name_ev hG
  obtain ⟨M1, M2⟩ := m_name_ev hM
  have k0 : ¬ i32 2 = 0 := by decide
  have j10 : ¬ i32 1 = 0 := by decide
  have j00 : i32 0 = 0 := by decide
  have k1 : ¬ i32 2 = 1 := by decide
  have k2 : i32 2 = 2 := by decide
  have nn : ¬ τ 7 6 = -1 := by omega
  have tc0 := tgf (t := 2) (new_fre c0) hc.1.2
  have l5 : 1514 ≤ τ c 5 := hc.2.2.2.1.1.1
  have n5 : ¬ τ (τ 7 6) 5 = -1 := by rw [h6]; omega
  by_cases h0 : (tkM T n p).1 = 0
  · obtain ⟨a, τ1, x1, x2, x3, x4, x5, x6, x7, x8⟩ := X1 h0
    obtain ⟨s1, m1, m2, m3, m4⟩ := M1 h0
    obtain ⟨e1, e2, e3, e4⟩ := tkM_at h0
    obtain ⟨⟨w1, w1'⟩, w2, -⟩ := name_word h0
    have t1 := rn_lt (q := qL) (T := T) (n := n) qL_1 e3.1
    rw [← e2] at t1
    generalize hW : wdl T (tkM T n p).2.1 (tkM T n p).2.2 = w at *
    generalize hA : (tkM T n p).2.1 = at1 at *
    generalize hE : (tkM T n p).2.2 = e at *
    have he := x5.2.2.2.2.1
    have hwl := wlq_b (T := T) he.2
    have C1 : CYR τ1 s1 c 1 es fs ws vs := hC.keep hal x4 (fun k hk => m2 k (by revert hk; exact (by decide : ∀ k ∈ cyk, k ∉ ([2, 4, 34] : List Nat)) k))
    have al1 := x5.2.2.2.2.2.1
    have tc := tgf (t := 2) (new_fre c0) C1.1.1.2
    have x76 : τ1 7 6 = c := by rw [x4.2.2.2 6 (by decide) (by decide) (by decide)]; exact h6
    have ec : τ1 c = τ c := x4.2.2.1 c (by omega) (by omega) (by omega) (tag_lt hal hc.1.2 (by decide))
    have hN := hal.1
    have y1 : ¬ τ1 7 6 = -1 := by omega
    have y2 : tg true τ1 (τ1 7 6) = 2 := by rw [x76]; exact tc
    have y3 : 0 ≤ τ1 7 6 ∧ ¬ (1438 ≤ τ1 7 6 ∧ τ1 7 6 < 1514) := by omega
    have F := find9_ev (fun _ h => nwc_dyn h) x2 (by omega) C1.verbs
    rw [ec, show τ c 5 = τ (τ 7 6) 5 by rw [h6]] at F
    have W1 := C1.2.2.1.2
    have h36 : s1 36 1 = vs.length := W1.1
    have h7 := W1.2.1
    have g5 : s1 5 0 = 0 := m3.2.2.2.2.1
    have z5 : i32 (s1 5 0) = 0 := by rw [g5]; decide
    have L : ∀ K, m_lentTold0_L7 K FU (nmV w) 0 s1 = K (if fnd w vs 0 = -1 then (vs.length : Int) else fnd w vs 0) s1 := fun K => lent7_go K W1 w2 w1' vs.length FU 0 (by omega) (by have := FU_ge; omega)
    have f := C1.2.2.2.1
    have hmo := m2
    have fb : exc τb τ1 := hb.ex x4
    -- both refuse
    have bad : (xN2 pl 2 τ = some (1, 0, ux (ux τ1 8 6 3) 8 7 at1)) → m_lentTold0 s = some (0, up (up s1 5 0 3) 6 0 at1) → StR 1 T n τb c p τ s (xN2 pl 2 τ) (m_lentTold0 s) := by
      intro hx hm
      right; left
      refine ⟨3, at1, ux (ux τ1 8 6 3) 8 7 at1, 0, up (up s1 5 0 3) 6 0 at1, hx, (xB.mk' ext.rf al1 3 at1).exc fb, ?_, ⟨hm, ?_, ?_, ?_⟩, by decide⟩
      · unfold rmo at *
        rw [u8_N, u8_N, u8_N, u8_N]
        omega
      · exact (stk.of m2 (by decide)).tr (stk.of (ks := [5, 6]) ((only.up (by decide)).tr (only.up (by decide))) (by decide))
      · rw [up_row (by decide), up_s]
      · rw [up_s]
    have jm : i32 (-1) = i32 (-1) := rfl
    have wr : x2_wrong 3 (τ1 7 3) τ1 = some (8, ux (ux τ1 8 6 3) 8 7 at1) := by rw [x6]; exact wrong_ev τ1 3 at1
    have mf : m_fail 3 (s1 34 0) s1 = some (0, up (up s1 5 0 3) 6 0 at1) := by rw [m4]; exact m_fail_ev g5
    have g3 : ¬ i32 (up (up s1 5 0 3) 6 0 at1 5 0) = 0 := by rw [up_row (by decide), up_s]; decide
    by_cases q : fnd w vs 0 = -1
    · rw [q] at F
      simp only [q, if_true] at L
      refine bad ?_ ?_
      · unfold xN2
        exact st_f k0 (st_f k1 (st_t k2 (st_gd nn (st_gd (by rw [h6]; exact tc0) (st_gd n5 (st_bind x1 (st_t rfl (st_bind F (st_bnd (st_bnd (st_t jm (st_bind wr (st_gd rfl rfl)))))))))))))
      · unfold m_lentTold0
        refine st_bind m1 (st_bnd (st_bnd ?_))
        refine (L _).trans ?_
        exact st_bnd (st_t z5 (st_gd o41 (st_bnd (st_t (by rw [z1, h36]) (st_bind mf (st_f g3 rfl))))))
    · obtain ⟨q1, q2⟩ := fnd_lt w vs 0 (by omega) q
      simp only [if_neg q] at L
      generalize hJ : fnd w vs 0 = j at *
      have nj : ¬ i32 j = i32 (-1) := by rw [i32_id (by omega) (by omega), show i32 (-1) = -1 from by decide]; omega
      have nj2 : ¬ i32 j = i32 (s1 36 (i32 1)) := by rw [z1, h36, i32_id (by omega) (by omega), i32_id (by omega) (by omega)]; omega
      have e40 : τ1 c 2 = s1 40 0 := f.2.2.2.1
      by_cases hbit : i32 (iand (ishr (τ1 c 2) j) 1) = i32 1
      · have hx0 : x0_has (τ1 (τ1 7 6) 2) j τ1 = some (1, τ1) := by rw [x76]; unfold x0_has; exact st_t hbit rfl
        refine bad ?_ ?_
        · unfold xN2
          exact st_f k0 (st_f k1 (st_t k2 (st_gd nn (st_gd (by rw [h6]; exact tc0) (st_gd n5 (st_bind x1 (st_t rfl (st_bind F (st_bnd (st_bnd (st_f nj (st_gd y1 (st_gd y2 (st_bind hx0 (st_f j10 (st_bind wr (st_gd rfl rfl)))))))))))))))))
        · unfold m_lentTold0
          refine st_bind m1 (st_bnd (st_bnd ?_))
          refine (L _).trans ?_
          exact st_bnd (st_t z5 (st_gd o41 (st_bnd (st_f nj2 (st_t (by rw [← e40]; exact hbit) (st_bind mf (st_f g3 rfl)))))))
      · have hx0 : x0_has (τ1 (τ1 7 6) 2) j τ1 = some (0, τ1) := by rw [x76]; unfold x0_has; exact st_f hbit rfl
        left
        refine ⟨ux τ1 c 2 (ior (s1 40 0) (ishl 1 j)), 0, up s1 40 0 (ior (s1 40 0) (ishl 1 j)), e, e, es, fs, ws, vs, ?_, ?_, ⟨x5.wr C1.1.1 (by decide), fb.un hcb.1 c0, by rw [ux_cell (by omega), x7]; exact h4⟩, ⟨?_, ?_, rfl⟩, ⟨?_, ?_, (hcb.kp hal hc x4.kps).wr C1.1 (by decide)⟩, by omega, ?_⟩
        · unfold xN2
          refine st_f k0 (st_f k1 (st_t k2 (st_gd nn (st_gd (by rw [h6]; exact tc0) (st_gd n5 (st_bind x1 (st_t rfl (st_bind F (st_bnd (st_bnd (st_f nj (st_gd y1 (st_gd y2 (st_bind hx0 (st_t j00 (st_gd y1 (st_gd y2 (st_gd y2 (st_gd y3 (st_bnd ?_))))))))))))))))))))
          show some ((0 : Int), (1 : Int), ux τ1 (τ1 7 6) 2 (ior (τ1 (τ1 7 6) 2) (ishl 1 j))) = _
          rw [x76, e40]
        · unfold m_lentTold0
          refine st_bind m1 (st_bnd (st_bnd ?_))
          refine (L _).trans ?_
          exact st_bnd (st_t z5 (st_gd o41 (st_bnd (st_f nj2 (st_f (by rw [← e40]; exact hbit) (st_t z5 (st_bnd rfl)))))))
        · exact m3.of' (ks := [40]) (only.up (by decide)) (by decide)
        · exact (stk.of m2 (by decide)).tr (stk.of (ks := [40]) (only.up (by decide)) (by decide))
        · have e35 : ∀ k, k ≠ 40 → up s1 40 0 (ior (s1 40 0) (ishl 1 j)) k = s1 k := fun k h => up_row h
          have ek : ∀ k ∈ ([41, 42, 43, 44] : List Nat), up s1 40 0 (ior (s1 40 0) (ishl 1 j)) k = s1 k := fun k h => e35 k (by revert h; exact (by decide : ∀ k ∈ ([41, 42, 43, 44] : List Nat), k ≠ 40) k)
          refine C1.wr al1 (by decide) (fun k h => e35 k (by revert h; exact (by decide : ∀ k ∈ ([36, 37, 38, 39] : List Nat), k ≠ 40) k)) (by rw [e35 _ (by decide)]; exact C1.2.2.2.2.2) ?_ ⟨C1.2.2.2.2.1.1.wr C1.1 (by decide) ek, C1.2.2.2.2.1.2.1.wr C1.1 (by decide) ek, C1.2.2.2.2.1.2.2.wr C1.1 (by decide) ek⟩
          unfold cyF
          rw [ux_s, ux_i _ _ _ _ (by decide), ux_i _ _ _ _ (by decide), ux_i _ _ _ _ (by decide), e35 45 (by decide), e35 35 (by decide), up_s]
          exact ⟨f.1, f.2.1, f.2.2.1, rfl, set_b7 f.2.2.2.2 (by omega)⟩
        · rw [up_row (by decide), m2 44 (by decide)]
          omega
        · unfold rmo at *
          rw [ux_cell (by omega)]
          omega
  · obtain ⟨τ1, x1, x2, x3⟩ := X2 h0
    obtain ⟨s1, m1, m2⟩ := M2 h0
    have hk := tkM_kd h0
    have W1 : wdsM s1 1 vs := by
      have := hC.2.2.1.2
      unfold wdsM
      rw [m2.1 36 (by decide), m2.1 37 (by decide)]
      exact this
    have L := fun K => lent7_any K (v := 0) W1 vs.length FU 0 (by omega) (by have := FU_ge; have := W1.2.1; omega)
    have g3 : ¬ i32 (s1 5 0) = 0 := by rw [m2.2.1, i32_id (by omega) (by omega)]; omega
    right; left
    refine ⟨_, _, τ1, 0, s1, ?_, x2.exc hb, ?_, ⟨?_, stk.of m2.1 (by decide), m2.2⟩, hk⟩
    · unfold xN2
      exact st_f k0 (st_f k1 (st_t k2 (st_gd nn (st_gd (by rw [h6]; exact tc0) (st_gd n5 (st_bind x1 (st_f n_10 rfl)))))))
    · exact x3.mono (by omega) (by omega)
    · unfold m_lentTold0
      refine st_bind m1 (st_bnd (st_bnd ?_))
      obtain ⟨j, hj⟩ := L _
      refine hj.trans ?_
      exact st_bnd (st_f g3 (st_f g3 rfl))
end
