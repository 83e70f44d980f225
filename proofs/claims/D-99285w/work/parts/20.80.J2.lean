set_option maxRecDepth 100000
/-! LAYER 2: calls of both: saying, best, round, truths -/
section
variable {τ τ' : XS} {s s' : MS} {N : Int} {es fs : List Int} {ws vs : List (List Int)} {a b c : Int}
theorem isC_x (h : INV τ s N es fs ws vs) : x0_isCountry τ = some (b2i (decide (s 46 0 = 1)), τ) ∧ (s 46 0 = 0 ∨ s 46 0 = 1) := by
  obtain ⟨⟨⟨c0, ct⟩, -, -⟩, -, ⟨-, -, d3, d4⟩, -⟩ := h.2.2.2.1
  have e : x0_isCountry τ = if i32 (τ (τ 0 0) 0) ≤ 0 then some (0, τ) else some (1, τ) := by
    unfold x0_isCountry
    exact st_gd (dyn_ne c0.1) (st_gd (tgd c0.1 ct) rfl)
  rw [e, i32_id (by omega) (by omega)]
  rcases d4 with ⟨q1, q2, -⟩ | ⟨q1, q2⟩
  · rw [if_pos (by omega), b2i_n (by omega)]; exact ⟨rfl, Or.inl q1⟩
  · rw [if_neg (by omega), b2i_c q1]; exact ⟨rfl, Or.inr q1⟩
def lgq : ∀ k, k ∈ lgk → k ∈ qfk := by unfold lgk qfk; intro k; simp; omega
theorem CLs.best (h : INV τ s N es fs ws vs) : CL τ s (x0_best τ) (m_best s) := by
  obtain ⟨x1, hc⟩ := isC_x h
  unfold x0_best m_best
  rcases hc with hc | hc
  · exact h.same (st_bind x1 (st_t (z0b (by omega)) rfl)) (st_t (by rw [hc]; exact i32_0) rfl)
  · obtain ⟨t1, a1, a2, -, a4, -⟩ := by_x h.rl
    obtain ⟨s1, b1, b2, b3, -, -⟩ := by_m h.rl
    have n46 : ¬ i32 (s 46 0) = 0 := by rw [hc]; exact n10
    cases hg : gvF ws.length vs.length (cnX 36 τ) (wlX 36 τ) (skV vs.length (τ 36 1)) with
    | none =>
      rw [hg] at a4 b3
      have q1 : i32 (t1 19 5) = 0 := by rw [show t1 19 5 = 0 from a4]; exact i32_0
      have q2 : i32 (s1 55 0) = 0 := by rw [show s1 55 0 = 0 from b3]; exact i32_0
      exact h.qc (st_bind x1 (st_f (z1b hc) (st_bind a1 (st_gd rfl (st_t q1 rfl))))) (st_f n46 (st_bind b1 (st_t q2 rfl))) (onQ.lx a2) (b2.mono lgq) (h.q36 a2)
    | some r =>
      rw [hg] at a4 b3
      obtain ⟨p1, p2, -, -⟩ := a4
      obtain ⟨q1, q2, -, -⟩ := b3
      have z1 : ¬ i32 (t1 19 5) = 0 := by rw [p1]; exact n10
      have z2 : ¬ i32 (s1 55 0) = 0 := by rw [q1]; exact n10
      exact h.qc (z := wsF (wlX 36 τ) 0 r) (st_bind x1 (st_f (z1b hc) (st_bind a1 (st_gd rfl (st_f z1 (by dsimp only; rw [p2])))))) (st_f n46 (st_bind b1 (st_f z2 (by dsimp only; rw [q2])))) (onQ.lx a2) (b2.mono lgq) (h.q36 a2)
theorem gets_ok (h : INV τ s N es fs ws vs) (ha : 0 ≤ a ∧ a < ws.length) : ∃ z t1 s1, x0_gets a τ = some (z, t1) ∧ m_laysGiving s = some (0, s1) ∧ lox τ t1 ∧ only lgk s s1 ∧ (-1 ≤ z ∧ z ≤ 6) ∧ ((i32 (s1 55 0) = 0 ∧ z = -1) ∨ (¬ i32 (s1 55 0) = 0 ∧ s1 54 a = z)) := by
  have hn := h.le
  obtain ⟨t1, a1, a2, -, a4, -⟩ := by_x h.rl
  obtain ⟨s1, b1, b2, b3, -, -⟩ := by_m h.rl
  have ia : i32 a = a := i32_id (by omega) (by omega)
  cases hg : gvF ws.length vs.length (cnX 36 τ) (wlX 36 τ) (skV vs.length (τ 36 1)) with
  | none =>
    rw [hg] at a4 b3
    have q1 : i32 (t1 19 5) = 0 := by rw [show t1 19 5 = 0 from a4]; exact i32_0
    have q2 : i32 (s1 55 0) = 0 := by rw [show s1 55 0 = 0 from b3]; exact i32_0
    refine ⟨-1, t1, s1, ?_, b1, a2, b2, by omega, Or.inl ⟨q2, rfl⟩⟩
    unfold x0_gets
    exact st_bind a1 (st_gd rfl (st_t q1 rfl))
  | some r =>
    rw [hg] at a4 b3
    obtain ⟨p1, p2, p3, p4⟩ := a4
    obtain ⟨q1, q2, q3, q4⟩ := b3
    have z1 : ¬ i32 (t1 19 5) = 0 := by rw [p1]; exact n10
    have z2 : ¬ i32 (s1 55 0) = 0 := by rw [q1]; exact n10
    have hl : a.toNat < r.length := by rw [p4.1]; omega
    have ea : ((a.toNat : Nat) : Int) = a := by omega
    have hr := p4.2 _ (List.getElem_mem hl)
    have e1 := p3 a.toNat _ (List.getElem?_eq_getElem hl)
    have e2 := q3 a.toNat _ (List.getElem?_eq_getElem hl)
    rw [ea] at e1 e2
    refine ⟨r[a.toNat], t1, s1, ?_, b1, a2, b2, by omega, Or.inr ⟨z2, e2⟩⟩
    unfold x0_gets
    refine st_bind a1 (st_gd rfl (st_f z1 (st_gd (by unfold ok; rw [ia]; omega) ?_)))
    dsimp only
    rw [ia, e1]
theorem CLs.saying (h : INV τ s N es fs ws vs) (ha : rgI a) (hb : rgI b) : CL τ s (x0_saying a b τ) (m_saying a b s) := by
  have hn := h.le
  unfold x0_saying m_saying
  have m2 := isIn2_ev (b := 0) (c := 2) s hb ⟨by decide, by decide⟩ ⟨by decide, by decide⟩
  have m2' : m_isIn (i32 b) 0 2 s = some (b2i (decide (0 ≤ b ∧ b ≤ 2)), s) := by rw [hb.e]; exact m2
  by_cases c1 : 0 ≤ a ∧ a < ws.length
  · have oka : ok 6 a := by unfold ok; rw [ha.e]; omega
    obtain ⟨g1, g2, g3, -⟩ := h.2.2.2.2.1.1.2.2 a c1.1 c1.2
    have ip : 0 ≤ b ∧ b ≤ 2 → i32 (8 + 10 * a + b) = 8 + 10 * a + b := fun _ => i32_id (by omega) (by omega)
    have okp : 0 ≤ b ∧ b ≤ 2 → ok 219 (8 + 10 * a + b) := fun q => by unfold ok; rw [ip q]; omega
    by_cases q0 : b = 0
    · have z0 : i32 b = 0 := by rw [q0]; exact i32_0
      refine h.same (z := τ 37 a) (st_bind (isSay_x h ha) (st_f (z1b c1) (st_t z0 (st_gd oka ?_)))) (st_bind (isSay_m h ha) (st_f (z1b c1) (st_bind m2' (st_f (z1b (by omega)) (st_gd (okp (by omega)) ?_)))))
      · dsimp only; rw [ha.e]
      · dsimp only; rw [ip (by omega), q0, Int.add_zero, ← g1.1]; rfl
    have n0 : ¬ i32 b = 0 := by rw [hb.e]; exact q0
    by_cases q1 : b = 1
    · have z1 : i32 b = 1 := by rw [q1]; decide
      refine h.same (z := τ 38 a) (st_bind (isSay_x h ha) (st_f (z1b c1) (st_f n0 (st_t z1 (st_gd oka ?_))))) (st_bind (isSay_m h ha) (st_f (z1b c1) (st_bind m2' (st_f (z1b (by omega)) (st_gd (okp (by omega)) ?_)))))
      · dsimp only; rw [ha.e]
      · dsimp only; rw [ip (by omega), q1, ← g2.1]; rfl
    have n1 : ¬ i32 b = 1 := by rw [hb.e]; exact q1
    by_cases q2 : b = 2
    · have z2 : i32 b = 2 := by rw [q2]; decide
      refine h.same (z := τ 39 a) (st_bind (isSay_x h ha) (st_f (z1b c1) (st_f n0 (st_f n1 (st_t z2 (st_gd oka ?_)))))) (st_bind (isSay_m h ha) (st_f (z1b c1) (st_bind m2' (st_f (z1b (by omega)) (st_gd (okp (by omega)) ?_)))))
      · dsimp only; rw [ha.e]
      · dsimp only; rw [ip (by omega), q2, ← g3.1]; rfl
    have n2 : ¬ i32 b = 2 := by rw [hb.e]; exact q2
    have nb : ¬ (0 ≤ b ∧ b ≤ 2) := by omega
    by_cases q3 : b = 3
    · have z3 : i32 b = 3 := by rw [q3]; decide
      have z3' : i32 b = i32 3 := by rw [q3]
      obtain ⟨z, t1, s1, a1, a2, a3, a4, a5, a6⟩ := gets_ok h c1
      rcases a6 with ⟨p1, rfl⟩ | ⟨p1, p2⟩
      · exact h.qc (st_bind (isSay_x h ha) (st_f (z1b c1) (st_f n0 (st_f n1 (st_f n2 (st_t z3 (st_bind a1 rfl))))))) (st_bind (isSay_m h ha) (st_f (z1b c1) (st_bind m2' (st_t (z0b nb) (st_t z3' (st_bind a2 (st_t p1 rfl))))))) (onQ.lx a3) (a4.mono lgq) (h.q36 a3)
      · exact h.qc (st_bind (isSay_x h ha) (st_f (z1b c1) (st_f n0 (st_f n1 (st_f n2 (st_t z3 (st_bind a1 rfl))))))) (st_bind (isSay_m h ha) (st_f (z1b c1) (st_bind m2' (st_t (z0b nb) (st_t z3' (st_bind a2 (st_f p1 (st_gd oka (by dsimp only; rw [ha.e, p2]))))))))) (onQ.lx a3) (a4.mono lgq) (h.q36 a3)
    have n3 : ¬ i32 b = 3 := by rw [hb.e]; exact q3
    have n3' : ¬ i32 b = i32 3 := n3
    by_cases q4 : b = 4
    · have z4 : i32 b = 4 := by rw [q4]; decide
      have z4' : i32 b = i32 4 := by rw [q4]
      obtain ⟨l, t1, s1, D, r1, r2, ⟨r3, r4⟩, -, -, -, ⟨r8, r9⟩, r10, -⟩ := round_ok h.rl
      have hd := r10 s1 (r4 36 (by decide)) (r4 48 (by decide)) (r4 35 (by decide)) rfl
      have hh := hasb_ev t1 r9 (o := a) (by omega)
      have mh := has_ev r9 (o := a) (by omega)
      cases hbit : bit D a with
      | true =>
        rw [hbit] at hh mh
        exact h.qc (z := 1) (st_bind (isSay_x h ha) (st_f (z1b c1) (st_f n0 (st_f n1 (st_f n2 (st_f n3 (st_t z4 (st_bind r1 (st_gd rfl (st_bind r8 (st_bind hh (st_f n10 rfl)))))))))))) (st_bind (isSay_m h ha) (st_f (z1b c1) (st_bind m2' (st_t (z0b nb) (st_f n3' (st_t z4' (st_bind r2 (st_bind hd (by dsimp only; rw [mh]; rfl))))))))) (onQ.lx r3) (r4.mono (by unfold qfk; intro k; simp; omega)) (h.q36 r3)
      | false =>
        rw [hbit] at hh mh
        exact h.qc (z := 0) (st_bind (isSay_x h ha) (st_f (z1b c1) (st_f n0 (st_f n1 (st_f n2 (st_f n3 (st_t z4 (st_bind r1 (st_gd rfl (st_bind r8 (st_bind hh (st_t i32_0 rfl)))))))))))) (st_bind (isSay_m h ha) (st_f (z1b c1) (st_bind m2' (st_t (z0b nb) (st_f n3' (st_t z4' (st_bind r2 (st_bind hd (by dsimp only; rw [mh]; rfl))))))))) (onQ.lx r3) (r4.mono (by unfold qfk; intro k; simp; omega)) (h.q36 r3)
    have n4 : ¬ i32 b = 4 := by rw [hb.e]; exact q4
    have n4' : ¬ i32 b = i32 4 := n4
    exact h.same (st_bind (isSay_x h ha) (st_f (z1b c1) (st_f n0 (st_f n1 (st_f n2 (st_f n3 (st_f n4 rfl))))))) (st_bind (isSay_m h ha) (st_f (z1b c1) (st_bind m2' (st_t (z0b nb) (st_f n3' (st_f n4' rfl))))))
  · exact h.same (st_bind (isSay_x h ha) (st_t (z0b c1) rfl)) (st_bind (isSay_m h ha) (st_t (z0b c1) rfl))
theorem CLs.round (h : INV τ s N es fs ws vs) (ha : rgI a) : CL τ s (x0_round a τ) (m_round a s) := by
  have hn := h.le
  obtain ⟨x1, hc⟩ := isC_x h
  unfold x0_round m_round
  rcases hc with hc | hc
  · exact h.same (st_bind x1 (st_t (z0b (by omega)) rfl)) (st_t (by rw [hc]; exact i32_0) rfl)
  · have n46 : ¬ i32 (s 46 0) = 0 := by rw [hc]; exact n10
    have m1 : m_isIn (i32 a) (-1) (i32 ((ws.length : Int) - 1)) s = some (b2i (decide (-1 ≤ a ∧ a ≤ (ws.length : Int) - 1)), s) := by
      rw [ha.e, i32_id (by omega) (by omega)]
      exact isIn2_ev s ha ⟨by decide, by decide⟩ ⟨by omega, by omega⟩
    obtain ⟨l, t1, s1, D, r1, r2, ⟨r3, r4⟩, r5, r6, ⟨r7, r7'⟩, -⟩ := round_ok h.rl
    by_cases q : a = -1
    · have z1 : i32 a = i32 (-1) := by rw [q]
      refine h.qc (z := t1 14 4) (st_bind x1 (st_f (z1b hc) (st_bnd (st_t z1 (st_bind r1 (st_gd rfl (st_t z1 rfl))))))) (st_f n46 (st_bind (sayMany_ev hn.2.2.1) (st_bind m1 (st_f (z1b (by omega)) (st_bind r2 (st_t z1 ?_)))))) (onQ.lx r3) (r4.mono (by unfold qfk; intro k; simp; omega)) (h.q36 r3)
      dsimp only
      rw [r6.1]
    · have nz1 : ¬ i32 a = i32 (-1) := by rw [ha.e, show i32 (-1) = -1 by decide]; exact q
      by_cases c1 : 0 ≤ a ∧ a < ws.length
      · have oka : ok 6 a := by unfold ok; rw [ha.e]; omega
        have hl : a.toNat < l.length := by rw [(okL_at r5).1]; omega
        have ea : ((a.toNat : Nat) : Int) = a := by omega
        have e1 := r7 a.toNat _ (List.getElem?_eq_getElem hl)
        rw [ea] at e1
        have e2 := r7' a c1.1 (by omega)
        refine h.qc (z := l[a.toNat]) (st_bind x1 (st_f (z1b hc) (st_bnd (st_f nz1 (st_bind (isSay_x h ha) (st_f (z1b c1) (st_bind r1 (st_gd rfl (st_f nz1 (st_gd oka ?_)))))))))) (st_f n46 (st_bind (sayMany_ev hn.2.2.1) (st_bind m1 (st_f (z1b (by omega)) (st_bind r2 (st_f nz1 (st_gd oka ?_))))))) (onQ.lx r3) (r4.mono (by unfold qfk; intro k; simp; omega)) (h.q36 r3)
        · dsimp only; rw [ha.e, e1]
        · dsimp only
          rw [ha.e, e2, List.getD_eq_getElem?_getD, List.getElem?_eq_getElem hl]
          rfl
      · exact h.same (st_bind x1 (st_f (z1b hc) (st_bnd (st_f nz1 (st_bind (isSay_x h ha) (st_t (z0b c1) rfl)))))) (st_f n46 (st_bind (sayMany_ev hn.2.2.1) (st_bind m1 (st_t (z0b (by omega)) rfl))))
theorem ior_0 {a : Int} (h : 0 ≤ a ∧ a < 128) : ior a 0 = a := fin1 (P := fun a => ior a 0 = a) (by decide +kernel) h
def tq4 : List Nat := [47, 50, 102, 103]
theorem RLc.both (h : RLc τ s N c es fs ws vs) (hl : lox τ τ') (ho : only tq4 s s') : RLc τ' s' N c es fs ws vs := h.lx hl (stn.of ho (by decide)) (ho 48 (by decide))
theorem truth17 (set o : Int) (ho : 0 ≤ o ∧ o < ws.length) : ∀ (d : Nat) (v b : Int) (τ : XS) (s : MS), RLc τ s N 36 es fs ws vs → 0 ≤ v → v + d = vs.length → b01 b → ∃ b' τ' s', (∀ K (f : Nat), d < f → x0_truths_L17 K f set o b v τ = K set o b' τ') ∧ (∀ K (f : Nat), d < f → m_truths_L17 K f set o b v s = K set o b' s') ∧ lox τ τ' ∧ only tq4 s s' ∧ b01 b' := by
  intro d
  induction d with
  | zero =>
    intro v b τ s h h0 hd hb
    obtain ⟨-, ⟨-, -, hv, h37⟩, -⟩ := h.2.1
    have le : i32 (vs.length : Int) ≤ i32 v := by rw [i32_id (by omega) (by omega), i32_id (by omega) (by omega)]; omega
    refine ⟨b, τ, s, fun K f hf => ?_, fun K f hf => ?_, lox.rf, only.rf, hb⟩
    · obtain ⟨g, rfl⟩ : ∃ g, f = g + 1 := ⟨f - 1, by omega⟩
      rw [x0_truths_L17]
      exact st_bind (verbs_ev h.2.1.cty) (st_t le rfl)
    · obtain ⟨g, rfl⟩ : ∃ g, f = g + 1 := ⟨f - 1, by omega⟩
      rw [m_truths_L17]
      exact st_bind (verbMany_ev h37) (st_t le rfl)
  | succ d ih =>
    intro v b τ s h h0 hd hb
    obtain ⟨-, ⟨-, -, hv, h37⟩, -⟩ := id h.2.1
    have nle : ¬ i32 (vs.length : Int) ≤ i32 v := by rw [i32_id (by omega) (by omega), i32_id (by omega) (by omega)]; omega
    have go : ∀ (b1 : Int) (t1 : XS) (s1 : MS), b01 b1 → lox τ t1 → only tq4 s s1 → (∀ (K : Int → Int → Int → XS → Option (Int × XS)) (g : Nat), x0_truths_L17 K (g + 1) set o b v τ = x0_truths_L17 K g set o b1 (v + 1) t1) → (∀ (K : Int → Int → Int → MS → Option (Int × MS)) (g : Nat), m_truths_L17 K (g + 1) set o b v s = m_truths_L17 K g set o b1 (v + 1) s1) → ∃ b' τ' s', (∀ K (f : Nat), d + 1 < f → x0_truths_L17 K f set o b v τ = K set o b' τ') ∧ (∀ K (f : Nat), d + 1 < f → m_truths_L17 K f set o b v s = K set o b' s') ∧ lox τ τ' ∧ only tq4 s s' ∧ b01 b' := fun b1 t1 s1 q1 q2 q3 q4 q5 => by
      obtain ⟨b', τ', s', w1, w2, w3, w4, w5⟩ := ih (v + 1) b1 t1 s1 (h.both q2 q3) (by omega) (by omega) q1
      refine ⟨b', τ', s', fun K f hf => ?_, fun K f hf => ?_, q2.tr w3, q3.tr w4, w5⟩
      · obtain ⟨g, rfl⟩ : ∃ g, f = g + 1 := ⟨f - 1, by omega⟩
        rw [q4 K g]; exact w1 K g (by omega)
      · obtain ⟨g, rfl⟩ : ∃ g, f = g + 1 := ⟨f - 1, by omega⟩
        rw [q5 K g]; exact w2 K g (by omega)
    rcases hb with rfl | rfl
    · refine go 0 τ s (Or.inl rfl) lox.rf only.rf (fun K g => ?_) (fun K g => ?_)
      · rw [x0_truths_L17]
        exact st_bind (verbs_ev h.2.1.cty) (st_f nle (st_bnd (st_bnd (st_t i32_0 (st_bnd rfl)))))
      · rw [m_truths_L17]
        exact st_bind (verbMany_ev h37) (st_f nle (st_bnd (st_bnd (st_t i32_0 (st_bnd rfl)))))
    · obtain ⟨-, ⟨l1, l2, l3⟩, -⟩ := h.2.2.2
      have hh := hasb_ev τ l1 (o := v) (by omega)
      have e1 := l3 v h0 (by omega)
      have iv : i32 (1 + v) = 1 + v := i32_id (by omega) (by omega)
      have il : m_isLent v s = some (b2i (bit (τ 36 1) v), s) := by
        unfold m_isLent
        refine st_gd (by unfold ok; rw [iv]; omega) ?_
        rw [iv, e1]
        cases bit (τ 36 1) v with
        | true => exact st_t (by decide) rfl
        | false => exact st_f (by decide) rfl
      cases hbit : bit (τ 36 1) v with
      | true =>
        rw [hbit] at hh il
        refine go 1 τ s (Or.inr rfl) lox.rf only.rf (fun K g => ?_) (fun K g => ?_)
        · rw [x0_truths_L17]
          exact st_bind (verbs_ev h.2.1.cty) (st_f nle (st_bnd (st_bnd (st_f n10 (st_bind hh (st_bnd (st_f n10 (st_bnd rfl))))))))
        · rw [m_truths_L17]
          exact st_bind (verbMany_ev h37) (st_f nle (st_bnd (st_bnd (st_f n10 (st_bind il (st_bnd (st_f n10 (st_bnd rfl))))))))
      | false =>
        rw [hbit] at hh il
        obtain ⟨w, t1, s1, a1, a2, a3, a4, a5⟩ := can_ok h.2.1 h.2.2.1 h.2.2.2 (a := o) (u := v) ho (by omega)
        rcases a5 with rfl | rfl
        · refine go 0 t1 s1 (Or.inl rfl) (lox10 a3) a4 (fun K g => ?_) (fun K g => ?_)
          · rw [x0_truths_L17]
            exact st_bind (verbs_ev h.2.1.cty) (st_f nle (st_bnd (st_bnd (st_f n10 (st_bind hh (st_bnd (st_t i32_0 (st_bind a1 (st_t i32_0 (st_bnd rfl))))))))))
          · rw [m_truths_L17]
            exact st_bind (verbMany_ev h37) (st_f nle (st_bnd (st_bnd (st_f n10 (st_bind il (st_bnd (st_t i32_0 (st_bind a2 (st_t i32_0 (st_bnd rfl))))))))))
        · refine go 1 t1 s1 (Or.inr rfl) (lox10 a3) a4 (fun K g => ?_) (fun K g => ?_)
          · rw [x0_truths_L17]
            exact st_bind (verbs_ev h.2.1.cty) (st_f nle (st_bnd (st_bnd (st_f n10 (st_bind hh (st_bnd (st_t i32_0 (st_bind a1 (st_f n10 (st_bnd rfl))))))))))
          · rw [m_truths_L17]
            exact st_bind (verbMany_ev h37) (st_f nle (st_bnd (st_bnd (st_f n10 (st_bind il (st_bnd (st_t i32_0 (st_bind a2 (st_f n10 (st_bnd rfl))))))))))
theorem truth4 : ∀ (d : Nat) (o set : Int) (τ : XS) (s : MS) (fx fm : Nat), RLc τ s N 36 es fs ws vs → 0 ≤ o → o + d = ws.length → (0 ≤ set ∧ set < 128) → d < fx → d < fm → ∃ z τ' s', x0_truths_L4 (fun (x1_57 : Int) (s58 : XS) => some (x1_57, s58)) fx set o τ = some (z, τ') ∧ m_truths_L4 (fun (x1_56 : Int) (s57 : MS) => some (x1_56, s57)) fm set o s = some (z, s') ∧ lox τ τ' ∧ only tq4 s s' := by
  intro d
  induction d with
  | zero =>
    intro o set τ s fx fm h h0 hd hs hfx hfm
    obtain ⟨-, ⟨⟨-, hn, h36⟩, -⟩, -⟩ := h.2.1
    have le : i32 (ws.length : Int) ≤ i32 o := by rw [i32_id (by omega) (by omega), i32_id (by omega) (by omega)]; omega
    obtain ⟨f, rfl⟩ : ∃ f, fx = f + 1 := ⟨fx - 1, by omega⟩
    obtain ⟨g, rfl⟩ : ∃ g, fm = g + 1 := ⟨fm - 1, by omega⟩
    refine ⟨set, τ, s, ?_, ?_, lox.rf, only.rf⟩
    · rw [x0_truths_L4]
      exact st_bind (sayings_ev h.2.1.cty) (st_t le rfl)
    · rw [m_truths_L4]
      exact st_bind (sayMany_ev h36) (st_t le rfl)
  | succ d ih =>
    intro o set τ s fx fm h h0 hd hs hfx hfm
    obtain ⟨-, ⟨⟨-, hn, h36⟩, -, hv, -⟩, -⟩ := id h.2.1
    have nle : ¬ i32 (ws.length : Int) ≤ i32 o := by rw [i32_id (by omega) (by omega), i32_id (by omega) (by omega)]; omega
    obtain ⟨f, rfl⟩ : ∃ f, fx = f + 1 := ⟨fx - 1, by omega⟩
    obtain ⟨g, rfl⟩ : ∃ g, fm = g + 1 := ⟨fm - 1, by omega⟩
    obtain ⟨b, t1, s1, a1, a2, a3, a4, a5⟩ := truth17 (N := N) (es := es) (fs := fs) (vs := vs) set o (by omega) vs.length 0 1 τ s h (by omega) (by omega) (Or.inr rfl)
    have hfu : vs.length < FU := by have := FU_ge; omega
    rcases a5 with rfl | rfl
    · obtain ⟨z, τ', s', w1, w2, w3, w4⟩ := ih (o + 1) set t1 s1 f g (h.both a3 a4) (by omega) (by omega) hs (by omega) (by omega)
      refine ⟨z, τ', s', ?_, ?_, a3.tr w3, a4.tr w4⟩
      · rw [x0_truths_L4]
        refine st_bind (sayings_ev h.2.1.cty) (st_f nle (st_bnd (st_bnd ((a1 _ FU hfu).trans (st_bnd (st_t i32_0 (st_be (e' := set) (ior_0 hs) (st_bnd w1))))))))
      · rw [m_truths_L4]
        exact st_bind (sayMany_ev h36) (st_f nle (st_bnd (st_bnd ((a2 _ FU hfu).trans (st_bnd (st_t i32_0 (st_bnd w2)))))))
    · obtain ⟨z, τ', s', w1, w2, w3, w4⟩ := ih (o + 1) (ior set (ishl 1 o)) t1 s1 f g (h.both a3 a4) (by omega) (by omega) (set_b7 hs ⟨h0, by omega⟩) (by omega) (by omega)
      refine ⟨z, τ', s', ?_, ?_, a3.tr w3, a4.tr w4⟩
      · rw [x0_truths_L4]
        exact st_bind (sayings_ev h.2.1.cty) (st_f nle (st_bnd (st_bnd ((a1 _ FU hfu).trans (st_bnd (st_f n10 (st_bnd (st_bnd w1))))))))
      · rw [m_truths_L4]
        exact st_bind (sayMany_ev h36) (st_f nle (st_bnd (st_bnd ((a2 _ FU hfu).trans (st_bnd (st_f n10 (st_bnd (st_bnd w2))))))))
theorem CLs.truths (h : INV τ s N es fs ws vs) : CL τ s (x0_truths τ) (m_truths s) := by
  have hfu : ws.length < FU := by have := FU_ge; have := h.le.1; omega
  obtain ⟨z, τ', s', w1, w2, w3, w4⟩ := truth4 ws.length 0 0 τ s FU FU h.rl (by omega) (by omega) (by omega) hfu hfu
  unfold x0_truths m_truths
  exact h.qc (st_bnd (st_bnd w1)) (st_bnd (st_bnd w2)) (onQ.lx w3) (w4.mono (by unfold qfk tq4; intro k; simp; omega)) (h.q36 w3)
end
