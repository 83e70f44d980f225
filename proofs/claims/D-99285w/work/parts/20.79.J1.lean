set_option maxRecDepth 100000
/-! LAYER 2: plain calls of both -/
/-- an int -/
def rgI (a : Int) : Prop := -2147483648 ≤ a ∧ a < 2147483648
theorem rgI.e {a : Int} (h : rgI a) : i32 a = a := i32_id h.1 h.2
theorem b2i_c {P : Prop} [Decidable P] (h : P) : b2i (decide P) = 1 := by rw [decide_eq_true h]; rfl
theorem b2i_n {P : Prop} [Decidable P] (h : ¬ P) : b2i (decide P) = 0 := by rw [decide_eq_false h]; rfl
theorem is2_ev {a b c : Int} (τ : XS) (ha : rgI a) (hb : rgI b) (hc : rgI c) : x0_is a b c τ = some (b2i (decide (b ≤ a ∧ a ≤ c)), τ) := by
  unfold x0_is
  rw [ha.e, hb.e, hc.e]
  by_cases h1 : a < b
  · rw [if_pos h1, b2i_n (by omega)]
  · rw [if_neg h1]
    by_cases h2 : c < a
    · rw [if_pos h2, b2i_n (by omega)]
    · rw [if_neg h2, b2i_c (by omega)]
theorem isIn2_ev {a b c : Int} (s : MS) (ha : rgI a) (hb : rgI b) (hc : rgI c) : m_isIn a b c s = some (b2i (decide (b ≤ a ∧ a ≤ c)), s) := by
  unfold rgI at *
  exact m_isIn_ev s (by omega) (by omega) (by omega)
section
variable {τ τ' : XS} {s s' : MS} {N : Int} {es fs : List Int} {ws vs : List (List Int)} {a b c : Int}
theorem isSay_x (h : INV τ s N es fs ws vs) (ha : rgI a) : x0_isSaying a τ = some (b2i (decide (0 ≤ a ∧ a < ws.length)), τ) := by
  have hn := h.le
  unfold x0_isSaying
  rw [ha.e]
  by_cases h1 : a < 0
  · rw [if_pos h1, b2i_n (by omega)]
  · refine st_f h1 (st_bind (sayings_ev h.2.2.2.1.cty) ?_)
    dsimp only
    rw [i32_id (by omega) (by omega)]
    by_cases h2 : (ws.length : Int) ≤ a
    · rw [if_pos h2, b2i_n (by omega)]
    · rw [if_neg h2, b2i_c (by omega)]
theorem isVb_x (h : INV τ s N es fs ws vs) (ha : rgI a) : x0_isVerb a τ = some (b2i (decide (0 ≤ a ∧ a < vs.length)), τ) := by
  have hn := h.le
  unfold x0_isVerb
  rw [ha.e]
  by_cases h1 : a < 0
  · rw [if_pos h1, b2i_n (by omega)]
  · refine st_f h1 (st_bind (verbs_ev h.2.2.2.1.cty) ?_)
    dsimp only
    rw [i32_id (by omega) (by omega)]
    by_cases h2 : (vs.length : Int) ≤ a
    · rw [if_pos h2, b2i_n (by omega)]
    · rw [if_neg h2, b2i_c (by omega)]
theorem bz_b (b : Bool) : bz (b2i b) := by cases b <;> decide
theorem isSay_m (h : INV τ s N es fs ws vs) (ha : rgI a) : m_isSaying a s = some (b2i (decide (0 ≤ a ∧ a < ws.length)), s) := by
  have hn := h.le
  have e : (0 ≤ a ∧ a ≤ (ws.length : Int) - 1) = (0 ≤ a ∧ a < ws.length) := by rw [eq_iff_iff]; omega
  unfold m_isSaying
  refine st_bind (sayMany_ev hn.2.2.1) (st_bind (z := (b2i (decide (0 ≤ a ∧ a < ws.length)), s)) ?_ (st_gd (bz_b _) rfl))
  dsimp only
  rw [ha.e, i32_id (by omega) (by omega), isIn2_ev s ha ⟨by decide, by decide⟩ ⟨by omega, by omega⟩]
  simp only [e]
theorem isVb_m (h : INV τ s N es fs ws vs) (ha : -1000000000000000 ≤ a ∧ a ≤ 1000000000000000) : m_isVerb a s = some (b2i (decide (0 ≤ a ∧ a < vs.length)), s) := by
  have hn := h.le
  have e : (0 ≤ a ∧ a ≤ (vs.length : Int) - 1) = (0 ≤ a ∧ a < vs.length) := by rw [eq_iff_iff]; omega
  unfold m_isVerb
  refine st_bind (verbMany_ev hn.2.2.2) (st_bind (z := (b2i (decide (0 ≤ a ∧ a < vs.length)), s)) ?_ (st_gd (bz_b _) rfl))
  dsimp only
  rw [i32_id (by omega) (by omega), m_isIn_ev s (by omega) (by omega) (by omega)]
  simp only [e]
theorem isVb_m2 (h : INV τ s N es fs ws vs) (ha : rgI a) : m_isVerb (i32 a) s = some (b2i (decide (0 ≤ a ∧ a < vs.length)), s) := by
  rw [ha.e]
  unfold rgI at ha
  exact isVb_m h (by omega)
theorem z0b {P : Prop} [Decidable P] (h : ¬ P) : i32 (b2i (decide P)) = 0 := by rw [b2i_n h]; exact i32_0
theorem z1b {P : Prop} [Decidable P] (h : P) : ¬ i32 (b2i (decide P)) = 0 := by rw [b2i_c h]; exact n10
theorem CLs.fault (h : INV τ s N es fs ws vs) (a : Int) : CL τ s (x0_fault a τ) (m_fault a s) := by
  obtain ⟨f1, f2⟩ := h.2.2.1.1
  unfold x0_fault m_fault
  by_cases h0 : i32 a = 0
  · exact h.same (st_t h0 rfl) (st_t h0 (by rw [f1]))
  · by_cases h1 : i32 a = i32 1
    · exact h.same (st_f h0 (st_t h1 rfl)) (st_f h0 (st_t h1 (by rw [f2])))
    · exact h.same (st_f h0 (st_f h1 rfl)) (st_f h0 (st_f h1 rfl))
theorem CLs.status (h : INV τ s N es fs ws vs) (ha : rgI a) : CL τ s (x0_status a τ) (m_status a s) := by
  unfold x0_status m_status
  have x := is2_ev (b := 0) (c := 5) τ ha ⟨by decide, by decide⟩ ⟨by decide, by decide⟩
  have m := isIn2_ev (b := 0) (c := 5) s ha ⟨by decide, by decide⟩ ⟨by decide, by decide⟩
  rw [← ha.e] at m
  by_cases c : 0 ≤ a ∧ a ≤ 5
  · have c' : 0 ≤ i32 a ∧ i32 a ≤ 5 := by rw [ha.e]; exact c
    have o : ok 6 a := by unfold ok; rw [ha.e]; omega
    refine h.same (z := s 9 a) (st_bind x (st_f (z1b c) (st_gd o ?_))) (st_bind m (st_f (z1b c') (st_gd o ?_)))
    · dsimp only
      rw [ha.e, h.2.2.1.2 a c.1 (by omega)]
    · dsimp only
      rw [ha.e]
  · have c' : ¬ (0 ≤ i32 a ∧ i32 a ≤ 5) := by rw [ha.e]; exact c
    exact h.same (st_bind x (st_t (z0b c) rfl)) (st_bind m (st_t (z0b c') rfl))
theorem CLs.octet (h : INV τ s N es fs ws vs) (ha : rgI a) : CL τ s (x0_octet a τ) (m_octet a s) := by
  obtain ⟨⟨o1, o2, o3⟩, o4⟩ := h.2.2.2.2.2.2.2.2.2
  unfold x0_octet m_octet
  by_cases c0 : a < 0
  · exact h.same (st_bnd (st_t (by rw [ha.e]; exact c0) rfl)) (st_t (by rw [ha.e]; exact c0) rfl)
  · have n0 : ¬ i32 a < 0 := by rw [ha.e]; exact c0
    by_cases c1 : a < s 107 0
    · obtain ⟨p1, p2, p3⟩ := o4 a (by omega) c1
      have o : ok 70 a := by unfold ok; rw [ha.e]; omega
      refine h.same (z := s 106 a) (st_bnd (st_f n0 (st_t ?_ (st_gd o ?_)))) (st_f n0 (st_f ?_ (st_gd o ?_)))
      · rw [ha.e, o1, i32_id (by omega) (by omega)]; exact c1
      · rw [ha.e, p1, iand_sb ⟨p2, p3⟩]
      · rw [ha.e, i32_id (by omega) (by omega)]; omega
      · rw [ha.e]
    · refine h.same (st_bnd (st_f n0 (st_f ?_ rfl))) (st_f n0 (st_t ?_ rfl))
      · rw [ha.e, o1, i32_id (by omega) (by omega)]; exact c1
      · rw [ha.e, i32_id (by omega) (by omega)]; omega
theorem CLs.kept (h : INV τ s N es fs ws vs) (ha : rgI a) (hb : rgI b) : CL τ s (x0_kept a b τ) (m_kept a b s) := by
  obtain ⟨-, ⟨⟨k1, k2, k3⟩, k4⟩, k5, -⟩ := h.2.2.2.2.1
  have z : ∀ x : Int, -1 ≤ x ∧ x ≤ 49 → rgI x := fun x hx => ⟨by omega, by omega⟩
  have x1 := is2_ev (b := 0) (c := τ 36 2 - 1) τ ha ⟨by decide, by decide⟩ (z _ (by omega))
  have m1 := isIn2_ev (b := 0) (c := s 48 68 - 1) s ha ⟨by decide, by decide⟩ (z _ (by omega))
  have m1' : m_isIn (i32 a) 0 (i32 (s 48 (i32 68) - 1)) s = some (b2i (decide (0 ≤ a ∧ a ≤ s 48 68 - 1)), s) := by
    rw [ha.e, show i32 68 = 68 by decide, i32_id (by omega) (by omega)]; exact m1
  rw [k1] at x1
  have x2 := is2_ev (b := 0) (c := 2) τ hb ⟨by decide, by decide⟩ ⟨by decide, by decide⟩
  have m2 := isIn2_ev (b := 0) (c := 2) s hb ⟨by decide, by decide⟩ ⟨by decide, by decide⟩
  have m2' : m_isIn (i32 b) 0 2 s = some (b2i (decide (0 ≤ b ∧ b ≤ 2)), s) := by rw [hb.e]; exact m2
  have o68 : ok 219 68 := by decide
  unfold x0_kept m_kept
  rw [k1]
  by_cases c1 : 0 ≤ a ∧ a ≤ s 48 68 - 1
  · by_cases c2 : 0 ≤ b ∧ b ≤ 2
    · have r := (k5 a c1.1 (by omega)).1
      have q := row_tg st36 r τ
      have ip : i32 (69 + 3 * a + b) = 69 + 3 * a + b := i32_id (by omega) (by omega)
      refine h.same (z := s 48 (69 + 3 * a + b)) (st_bind x1 (st_f (z1b c1) (st_bind x2 (st_f (z1b c2) (st_gd ?_ (st_gd ?_ (st_gd ?_ (st_gd ?_ ?_)))))))) (st_gd o68 (st_bind m1' (st_f (z1b c1) (st_bind m2' (st_f (z1b c2) (st_gd ?_ ?_))))))
      · unfold ok; rw [ha.e]; omega
      · dsimp only; rw [ha.e]; exact q.2.1
      · dsimp only; rw [ha.e]; exact q.1.1
      · dsimp only; rw [ha.e]
        have ql := q.1.2
        rw [show (36 : Int) + 12 = 48 from rfl] at ql
        rw [ql]; unfold ok; rw [hb.e]; omega
      · dsimp only
        rw [ha.e, hb.e]
        have := k4 a b c1.1 (by omega) c2.1 (by omega)
        rw [show (36 : Int) + 12 = 48 from rfl] at this
        rw [this]
      · unfold ok; rw [ip]; omega
      · dsimp only; rw [ip]
    · exact h.same (st_bind x1 (st_f (z1b c1) (st_bind x2 (st_t (z0b c2) rfl)))) (st_gd o68 (st_bind m1' (st_f (z1b c1) (st_bind m2' (st_t (z0b c2) rfl)))))
  · exact h.same (st_bind x1 (st_t (z0b c1) rfl)) (st_gd o68 (st_bind m1' (st_t (z0b c1) rfl)))
theorem CLs.pair (h : INV τ s N es fs ws vs) (ha : rgI a) (hb : rgI b) (c : Int) : CL τ s (x0_pair a b c τ) (m_pair a b c s) := by
  have hn := h.le
  unfold x0_pair m_pair
  by_cases c1 : 0 ≤ a ∧ a < ws.length
  · by_cases c2 : 0 ≤ b ∧ b < vs.length
    · by_cases q0 : i32 c = 0
      · obtain ⟨v, t1, s1, a1, a2, a3, a4, a5⟩ := can_ok h.2.2.2.1 st36 h.2.2.2.2.1.1 c1 c2
        rcases a5 with rfl | rfl
        · exact h.qc (st_bind (isSay_x h ha) (st_f (z1b c1) (st_bind (isVb_x h hb) (st_f (z1b c2) (st_t q0 (st_bind a1 (st_t i32_0 rfl))))))) (st_bind (isSay_m h ha) (st_f (z1b c1) (st_bind (isVb_m2 h hb) (st_f (z1b c2) (st_t q0 (st_bind a2 (st_t i32_0 rfl))))))) (onQ.lx (lox10 a3)) (a4.mono (by unfold qfk; intro k; simp; omega)) (h.q36 (lox10 a3))
        · exact h.qc (st_bind (isSay_x h ha) (st_f (z1b c1) (st_bind (isVb_x h hb) (st_f (z1b c2) (st_t q0 (st_bind a1 (st_f n10 rfl))))))) (st_bind (isSay_m h ha) (st_f (z1b c1) (st_bind (isVb_m2 h hb) (st_f (z1b c2) (st_t q0 (st_bind a2 (st_f n10 rfl))))))) (onQ.lx (lox10 a3)) (a4.mono (by unfold qfk; intro k; simp; omega)) (h.q36 (lox10 a3))
      · by_cases q1 : i32 c = i32 1
        · have g := (h.2.2.2.2.1.1.2.2 a c1.1 c1.2).2.2.2 b c2.1 c2.2
          have ip : i32 (8 + 10 * a + 3 + b) = 8 + 10 * a + 3 + b := i32_id (by omega) (by omega)
          refine h.same (z := s 48 (8 + 10 * a + 3 + b)) (st_bind (isSay_x h ha) (st_f (z1b c1) (st_bind (isVb_x h hb) (st_f (z1b c2) (st_f q0 (st_t q1 (st_gd ?_ (st_gd ?_ ?_)))))))) (st_bind (isSay_m h ha) (st_f (z1b c1) (st_bind (isVb_m2 h hb) (st_f (z1b c2) (st_f q0 (st_t q1 (st_bind (z := (s 48 (8 + 10 * a + 3 + b), s)) ?_ rfl)))))))
          · unfold ok; rw [ha.e]; omega
          · unfold ok; rw [hb.e]; omega
          · dsimp only
            rw [ha.e, hb.e, show (41 : Int) + 1 + a = 36 + 5 + 1 + a by omega, g.1]
          · unfold m_givenOf
            refine st_gd (by unfold ok; rw [ip]; omega) ?_
            dsimp only
            rw [ip]
        · exact h.same (st_bind (isSay_x h ha) (st_f (z1b c1) (st_bind (isVb_x h hb) (st_f (z1b c2) (st_f q0 (st_f q1 rfl)))))) (st_bind (isSay_m h ha) (st_f (z1b c1) (st_bind (isVb_m2 h hb) (st_f (z1b c2) (st_f q0 (st_f q1 rfl))))))
    · exact h.same (st_bind (isSay_x h ha) (st_f (z1b c1) (st_bind (isVb_x h hb) (st_t (z0b c2) rfl)))) (st_bind (isSay_m h ha) (st_f (z1b c1) (st_bind (isVb_m2 h hb) (st_t (z0b c2) rfl))))
  · exact h.same (st_bind (isSay_x h ha) (st_t (z0b c1) rfl)) (st_bind (isSay_m h ha) (st_t (z0b c1) rfl))
theorem CLs.well (h : INV τ s N es fs ws vs) (ha : rgI a) (hb : rgI b) : CL τ s (x0_well a b τ) (m_well a b s) := by
  unfold x0_well m_well
  by_cases c1 : 0 ≤ a ∧ a < ws.length
  · by_cases c2 : 0 ≤ b ∧ b < vs.length
    · obtain ⟨v, t1, s1, a1, a2, a3, a4, a5⟩ := well_ok (m := 64) (by decide) h.2.2.2.1 st36 h.2.2.2.2.1.1 c1 c2
      exact h.qc (st_bind (isSay_x h ha) (st_f (z1b c1) (st_bind (isVb_x h hb) (st_f (z1b c2) (st_bind a1 rfl))))) (st_bind (isSay_m h ha) (st_f (z1b c1) (st_bind (isVb_m2 h hb) (st_f (z1b c2) (st_bind a2 rfl))))) (onQ.lx (lox10 a3)) (a4.mono (by unfold qfk; intro k; simp; omega)) (h.q36 (lox10 a3))
    · exact h.same (st_bind (isSay_x h ha) (st_f (z1b c1) (st_bind (isVb_x h hb) (st_t (z0b c2) rfl)))) (st_bind (isSay_m h ha) (st_f (z1b c1) (st_bind (isVb_m2 h hb) (st_t (z0b c2) rfl))))
  · exact h.same (st_bind (isSay_x h ha) (st_t (z0b c1) rfl)) (st_bind (isSay_m h ha) (st_t (z0b c1) rfl))
theorem CLs.verb (h : INV τ s N es fs ws vs) (ha : rgI a) (hb : rgI b) : CL τ s (x0_verb a b τ) (m_verb a b s) := by
  have hn := h.le
  obtain ⟨⟨⟨c0, ct⟩, l1, l2⟩, ⟨-, b1, b2, b3⟩, -⟩ := id h.2.2.2.1
  have z5 := l2.1.1.1
  unfold x0_verb m_verb
  by_cases c1 : 0 ≤ a ∧ a < vs.length
  · have hl : a.toNat < fs.length := by rw [b1.1]; omega
    have hl2 : a.toNat < vs.length := by omega
    obtain ⟨x, ex⟩ : ∃ x, fs[a.toNat] = x := ⟨_, rfl⟩
    have gx : fs[a.toNat]? = some x := by rw [List.getElem?_eq_getElem hl, ex]
    obtain ⟨⟨x0, xt⟩, -, -, w1, w2⟩ := b1.2 a.toNat _ _ gx (List.getElem?_eq_getElem hl2)
    have eu : ((a.toNat : Nat) : Int) = a := by omega
    rw [eu] at w1 w2
    have gg := get_ev dnN_dyn l2 gx
    rw [eu] at gg
    have tx : tg true τ x = 10 := tgd x0 xt
    have X : ∀ {r : Option (Int × XS)}, (if i32 b = 0 then
      gd (tg true τ x = 10) <|
      some ((τ x 1), τ)
    else
      if i32 b = i32 1 then
        gd (tg true τ x = 10) <|
        some ((τ x 2), τ)
      else
        if i32 b = i32 2 then
          Option.bind (x0_has (τ 36 1) a τ) fun z15 =>
          if i32 z15.1 = 0 then
            some (0, z15.2)
          else
            some (1, z15.2)
        else
          some ((-1), τ)) = r → x0_verb a b τ = r := fun {r} hr => by
      unfold x0_verb
      exact st_bind (isVb_x h ha) (st_f (z1b c1) (st_gd (dyn_ne c0.1) (st_gd (tgd c0.1 ct) (st_gd (dyn_ne z5) (st_gd (tgd z5 l2.1.2) (st_bind gg (st_gd tx (st_bnd hr))))))))
    unfold x0_verb at X
    by_cases q0 : b = 0
    · have z0 : i32 b = 0 := by rw [q0]; exact i32_0
      have ip : i32 (14 + 2 * a + b) = 14 + 2 * a := by rw [q0, i32_id (by omega) (by omega)]; omega
      refine h.same (z := τ x 1) (X (st_t z0 (st_gd tx rfl))) (st_bind (isVb_m2 h ha) (st_f (z1b c1) (st_bnd (st_t z0 (st_gd ?_ ?_)))))
      · unfold ok; rw [ip]; omega
      · dsimp only; rw [ip, w1.1]
    · have n0 : ¬ i32 b = 0 := by rw [hb.e]; exact q0
      by_cases q1 : b = 1
      · have z1 : i32 b = i32 1 := by rw [q1]
        have ip : i32 (14 + 2 * a + b) = 15 + 2 * a := by rw [q1, i32_id (by omega) (by omega)]; omega
        refine h.same (z := τ x 2) (X (st_f n0 (st_t z1 (st_gd tx rfl)))) (st_bind (isVb_m2 h ha) (st_f (z1b c1) (st_bnd (st_f n0 (st_t z1 (st_gd ?_ ?_))))))
        · unfold ok; rw [ip]; omega
        · dsimp only; rw [ip, w2.1]
      · have n1 : ¬ i32 b = i32 1 := by rw [hb.e]; exact q1
        by_cases q2 : i32 b = i32 2
        · obtain ⟨-, ⟨s1, s2, s3⟩, -⟩ := h.2.2.2.2.1.1
          have hh := hasb_ev τ s1 (o := a) (by omega)
          have e := s3 a c1.1 c1.2
          have ip : i32 (1 + a) = 1 + a := i32_id (by omega) (by omega)
          have okp : ok 219 (1 + a) := by unfold ok; rw [ip]; omega
          cases hbit : bit (τ 36 1) a with
          | true =>
            rw [hbit] at hh e
            refine h.same (z := 1) (X (st_f n0 (st_f n1 (st_t q2 (st_bind hh (st_f n10 rfl)))))) (st_bind (isVb_m2 h ha) (st_f (z1b c1) (st_bnd (st_f n0 (st_f n1 (st_t q2 (st_gd okp ?_)))))))
            dsimp only
            rw [ip, e]
            rfl
          | false =>
            rw [hbit] at hh e
            refine h.same (z := 0) (X (st_f n0 (st_f n1 (st_t q2 (st_bind hh (st_t i32_0 rfl)))))) (st_bind (isVb_m2 h ha) (st_f (z1b c1) (st_bnd (st_f n0 (st_f n1 (st_t q2 (st_gd okp ?_)))))))
            dsimp only
            rw [ip, e]
            rfl
        · exact h.same (X (st_f n0 (st_f n1 (st_f q2 rfl)))) (st_bind (isVb_m2 h ha) (st_f (z1b c1) (st_bnd (st_f n0 (st_f n1 (st_f q2 rfl))))))
  · exact h.same (st_bind (isVb_x h ha) (st_t (z0b c1) rfl)) (st_bind (isVb_m2 h ha) (st_t (z0b c1) rfl))
end
