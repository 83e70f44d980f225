set_option maxRecDepth 100000
/-! LAYER 2: a statement's end, both -/
section
variable {T : Int → Int} {n p : Int} {τb τ τ' : XS} {s s' s0 : MS} {c : Int}
noncomputable def xMu (K : XS → Option RX) (s44 : XS) : Option RX :=
  Option.bind (x2_must 59 s44) fun z45 =>
  if z45.1 = 0 then
  K z45.2.2
  else some (1, 0, z45.2.2)
noncomputable def mSc (s4 : MS) : Option (Int × MS) :=
  Option.bind (m_asksSign 59 s4) fun z5 =>
  bnd (up z5.2 45 0 ((z5.2 45 0) + 1)) fun s6 =>
  some (0, s6)
/-- ahead of a statement -/
def LpI (T : Int → Int) (n : Int) (τb : XS) (c p : Int) (τ : XS) (s : MS) (es fs : List Int) (ws vs : List (List Int)) : Prop :=
  (xG T n τ p ∧ exc τb τ ∧ τ 7 4 = 0) ∧ mG T n s p ∧ (CYR τ s c 0 es fs ws vs ∧ s 44 0 ≤ p ∧ lsb τb τ c)
/-- a fault of both -/
def FlR (T : Int → Int) (n : Int) (τb : XS) (a b : Int) (τ : XS) (s : MS) (τ' : XS) (s' : MS) : Prop :=
  ∃ kd pl, (exc τb τ' ∧ al τ' ∧ τ' 8 6 = kd ∧ τ' 8 7 = pl) ∧ rmo a b τ τ' ∧ (stk s s' ∧ s' 5 0 = kd ∧ s' 6 0 = pl) ∧ 1 ≤ kd ∧ kd ≤ 5
theorem CYR.d0 {es fs : List Int} {ws vs : List (List Int)} (h : CYR τ s c 1 es fs ws vs) (ha : al τ) (hm : ∀ k, k ≠ 45 → s' k = s k) (h45 : s' 45 0 = s 45 0 + 1) : CYR τ s' c 0 es fs ws vs := by
  have q := ux_self (τ := τ) (c := c) (i := 0) (x := τ c 0) rfl
  have ek : ∀ k ∈ ([41, 42, 43, 44] : List Nat), s' k = s k := fun k h => hm k (by revert h; exact (by decide : ∀ k ∈ ([41, 42, 43, 44] : List Nat), k ≠ 45) k)
  have r : CYR (ux τ c 0 (τ c 0)) s' c 0 es fs ws vs := by
    refine h.wr ha (by decide) (fun k h => hm k (by revert h; exact (by decide : ∀ k ∈ ([36, 37, 38, 39] : List Nat), k ≠ 45) k)) (by rw [hm _ (by decide)]; exact h.2.2.2.2.2) ?_ ⟨h.2.2.2.2.1.1.wr h.1 (by decide) ek, h.2.2.2.2.1.2.1.wr h.1 (by decide) ek, h.2.2.2.2.1.2.2.wr h.1 (by decide) ek⟩
    have f := h.2.2.2.1
    rw [q]
    unfold cyF at *
    rw [hm 35 (by decide), hm 40 (by decide), h45]
    exact ⟨by omega, f.2⟩
  rw [q] at r
  exact r
theorem StR.end {v r : Int} {xe : Option RX} {me : Option (Int × MS)} (h : StR v T n τb c r τ s xe me) (hr : 0 ≤ r ∧ r ≤ n) :
    ∃ z y s', xe = some z ∧ me = some y ∧ ((z.1 = 0 ∧ z.2.1 = v) ∨ z = (1, 0, z.2.2)) ∧ mSc y.2 = some (0, s') ∧
      ((∃ τ' p' es fs ws vs, z.1 = 0 ∧ (∀ K, xMu K z.2.2 = K τ') ∧ LpI T n τb c p' τ' s' es fs ws vs ∧ stk s s' ∧ r < p' ∧ rmo (60 * (p' - r)) (500 * (p' - r)) τ τ') ∨
       (∃ τ', (z.1 = 0 → ∀ K, xMu K z.2.2 = some (1, 0, τ')) ∧ (z.1 ≠ 0 → z.2.2 = τ') ∧ FlR T n τb (60 * (n - r) + 100) (500 * (n - r) + 600) τ s τ' s')) := by
  have sg : sgn 59 := by unfold sgn; decide
  rcases h with ⟨τ', z, s', p', pm, es, fs, ws, vs, h1, h2, ⟨g1, g2, g3⟩, ⟨g4, g5, g6⟩, ⟨c1, c2, c3⟩, h3, h4⟩ | ⟨kd, pl, τ', z, s', h1, h2, h3, ⟨h4, h5, h6, h7⟩, h8⟩ | ⟨q, τ', z, s', h1, h2, h3, ⟨h4, h5, h6⟩, h7, h8⟩
  · have hp := g1.2.2.2.2.1
    have hal := g1.2.2.2.2.2.1
    have hle := rn_le (q := qB) (T := T) (n := n) p'
    have hhi := rn_hi (q := qB) (T := T) (p := p') qB_1 hp.2
    by_cases hs : bA T n (rn qB T n p') = 59
    · obtain ⟨x1, x2⟩ := must_t g1 (c := 59) (by decide) hs
      obtain ⟨s1, m1, m2, m3⟩ := m_asksSign_t g4 sg (by rw [g6]; exact hs)
      rw [g6] at m3
      have w0 : wlq T n p' = 0 := by
        unfold wlq
        rw [rn_stop (q := qL) (by rw [hs]; decide)]
        omega
      have e45 : ∀ k, k ≠ 45 → up s1 45 0 (s1 45 0 + 1) k = s1 k := fun k h => up_row h
      have al2 := x2.2.2.2.2.2.1
      have C1 : CYR (ux τ' 7 2 (rn qB T n p' + 1)) s1 c 1 es fs ws vs := c1.keep hal (ext.rf.u7 (Or.inl rfl)) (fun k hk => m2 k (by revert hk; exact (by decide : ∀ k ∈ cyk, k ∉ ([2] : List Nat)) k))
      refine ⟨_, _, up s1 45 0 (s1 45 0 + 1), h1, h2, Or.inl ⟨rfl, rfl⟩, st_bind m1 (st_bnd rfl), Or.inl ⟨ux τ' 7 2 (rn qB T n p' + 1), rn qB T n p' + 1, es, fs, ws, vs, rfl, fun K => st_bind x1 (st_t rfl rfl), ⟨⟨x2, g2.ex (ext.rf.u7 (Or.inl rfl)), by rw [ux_i _ _ _ _ (by decide)]; exact g3⟩, m3.of' (ks := [45]) (only.up (by decide)) (by decide), C1.d0 al2 e45 (by rw [up_s]), ?_, c3.kp hal c1.1 (ext.rf.u7 (Or.inl rfl)).kps⟩, ?_, by omega, ?_⟩⟩
      · rw [e45 44 (by decide), m2 44 (by decide)]; omega
      · exact (g5.tr (stk.of m2 (by decide))).tr (stk.of (ks := [45]) (only.up (by decide)) (by decide))
      · rw [w0] at h4
        unfold rmo at *
        rw [u7_N, u7_N]
        omega
    · obtain ⟨τ2, x1, x2, x3⟩ := must_f g1 (c := 59) (by decide) hs
      obtain ⟨s1, m1, m2⟩ := m_asksSign_f g4 sg (by rw [g6]; exact hs)
      rw [g6] at m2
      have hwl := wlq_b (T := T) hp.2
      refine ⟨_, _, up s1 45 0 (s1 45 0 + 1), h1, h2, Or.inl ⟨rfl, rfl⟩, st_bind m1 (st_bnd rfl), Or.inr ⟨τ2, fun _ K => st_bind x1 (st_f n_10 rfl), fun h => absurd rfl h, 1, rn qB T n p', x2.exc g2, ?_, ⟨?_, ?_, ?_⟩, by decide, by decide⟩⟩
      · unfold rmo at *
        rw [x3]
        omega
      · exact (g5.tr (stk.of m2.1 (by decide))).tr (stk.of (ks := [45]) (only.up (by decide)) (by decide))
      · rw [up_row (by decide)]; exact m2.2.1
      · rw [up_row (by decide)]; exact m2.2.2
  · refine ⟨_, _, up s' 45 0 (s' 45 0 + 1), h1, h4, Or.inr rfl, st_bind (sign_bad h6 h8) (st_bnd rfl), Or.inr ⟨τ', fun h => absurd h n_10, fun _ => rfl, kd, pl, h2, h3, ⟨h5.tr (stk.of (ks := [45]) (only.up (by decide)) (by decide)), ?_, ?_⟩, h8⟩⟩
    · rw [up_row (by decide)]; exact h6
    · rw [up_row (by decide)]; exact h7
  · obtain ⟨s1, m1, m2⟩ := m_asksSign_f h6 sg (by rw [h7]; intro e; rw [e] at h8; revert h8; decide)
    rw [h7] at m2
    refine ⟨_, _, up s1 45 0 (s1 45 0 + 1), h1, h4, Or.inr rfl, st_bind m1 (st_bnd rfl), Or.inr ⟨τ', fun h => absurd h n_10, fun _ => rfl, 1, q, h2, h3, ⟨?_, ?_, ?_⟩, by decide, by decide⟩⟩
    · exact (h5.tr (stk.of m2.1 (by decide))).tr (stk.of (ks := [45]) (only.up (by decide)) (by decide))
    · rw [up_row (by decide)]; exact m2.2.1
    · rw [up_row (by decide)]; exact m2.2.2
end
