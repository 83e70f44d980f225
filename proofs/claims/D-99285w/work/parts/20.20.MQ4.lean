set_option maxRecDepth 100000
/-! LAYER 2: the reference, behind a part -/
section
variable {T : Int → Int} {n p tk b o : Int} {s s' : MS} {C W rs ops : List Int} {k : Int → MS → Option (Int × MS)} {was br : Int} {fi fo fl : Nat}
theorem z32 {x : Int} (h : x = 0) : i32 x = 0 := by rw [h]; exact i32_0
def s60 (W : List Int) (b : Int) : Prop := (W.length : Int) = b ∨ ∃ V t, W = V ++ [t] ∧ t < 60
def s34 (W : List Int) : Prop := W = [] ∨ ∃ V t, W = V ++ [t] ∧ t ≠ 3 ∧ t ≠ 4
def s14 (W : List Int) : Prop := W = [] ∨ ∃ V t, W = V ++ [t] ∧ ¬ (1 ≤ t ∧ t ≤ 4)
theorem pop_ev (h : mQ T n tk s p C (W ++ [br]) b o) (hl : W.length < 1690) (hb : b ≤ W.length) (ho : 1 ≤ o) : ∃ s', up (up s 99 0 (s 99 0 - 1)) 100 0 (up s 99 0 (s 99 0 - 1) 100 0 - 1) = s' ∧ only pks s s' ∧ mQ T n tk s' p C W b (o - 1) ∧ s' 99 0 = W.length ∧ s' 98 W.length = br := by
  obtain ⟨g, ⟨⟨a1, a2⟩, a3, a4⟩, ⟨a5, a6⟩, a7, a8, a9, a10⟩ := h
  rw [List.length_append, List.length_singleton] at a3
  have e : s 99 0 - 1 = W.length := by omega
  have e2 : up s 99 0 (s 99 0 - 1) 100 0 = o := by rw [up_k _ _ _ _ (by decide)]; exact a5
  refine ⟨_, rfl, (only.up (by decide)).tr (only.up (by decide)), ?_, ?_, ?_⟩
  · have ho' : only [99, 100] s (up (up s 99 0 (s 99 0 - 1)) 100 0 (up s 99 0 (s 99 0 - 1) 100 0 - 1)) := (only.up (by decide)).tr (only.up (by decide))
    exact ⟨g.of' ho' (by decide), ⟨⟨by rw [ho' 97 (by decide)]; exact a1, a2.of (ho' 96 (by decide))⟩, by rw [up_k _ _ _ _ (by decide), up_s]; exact e, a4.pre.of (ho' 98 (by decide))⟩, ⟨by rw [up_s, e2], by rw [ho' 101 (by decide)]; exact a6⟩, by rw [ho' 47 (by decide)]; exact a7, by omega, ⟨a9.1, hb⟩, fun y hy => a10 y (List.mem_append_left _ hy)⟩
  · rw [up_k _ _ _ _ (by decide), up_s]; exact e
  · rw [up_k _ _ _ _ (by decide), up_k _ _ _ _ (by decide)]; exact a4.last
theorem push_ev (h : mQ T n tk s p C W b o) (hl : W.length < 1690) {x : Int} (hx : 0 ≤ x ∧ x < 100) : ∃ s', up (up s 98 (i32 (s 99 0)) x) 99 0 (up s 98 (i32 (s 99 0)) x 99 0 + 1) = s' ∧ only pks s s' ∧ mQ T n tk s' p C (W ++ [x]) b o := by
  obtain ⟨g, ⟨⟨a1, a2⟩, a3, a4⟩, ⟨a5, a6⟩, a7, a8, a9, a10⟩ := h
  have ho' : only [98, 99] s (up (up s 98 (i32 (s 99 0)) x) 99 0 (up s 98 (i32 (s 99 0)) x 99 0 + 1)) := (only.up (by decide)).tr (only.up (by decide))
  refine ⟨_, rfl, ho'.mono (by decide), g.of' ho' (by decide), ⟨⟨by rw [ho' 97 (by decide)]; exact a1, a2.of (ho' 96 (by decide))⟩, ?_, ?_⟩, ⟨by rw [ho' 100 (by decide)]; exact a5, by rw [ho' 101 (by decide)]; exact a6⟩, by rw [ho' 47 (by decide)]; exact a7, a8, ⟨a9.1, by rw [List.length_append, List.length_singleton]; omega⟩, fun y hy => ?_⟩
  · rw [up_s, up_k _ _ _ _ (by decide), a3, List.length_append, List.length_singleton]; omega
  · rw [a3, i32_id (by omega) (by omega)]
    exact (a4.snoc x).of (up_row (by decide))
  · rcases List.mem_append.mp hy with hy | hy
    · exact a10 y hy
    · rw [List.mem_singleton.mp hy]; exact hx
theorem takesSign_no (h : mG T n s p) (hp : rn qB T n p = p) {c : Int} (hc : 0 ≤ c ∧ c < 128) (hne : bA T n p ≠ c) : m_takesSign c s = some (0, s) := by
  have h5 : s 5 0 = 0 := h.2.2.2.2.1
  have hb := bA_b h.1 p
  unfold m_takesSign
  simp (disch := omega) only [gd_t, gd_T, gd_ok, not_false_eq_true, eq_self, bnd_r, bind_s, ite_t, ite_n, ite_T, ite_F, i32_id, h5, m_look_id h hp]
theorem takesSign_yes (h : mG T n s p) (hp : rn qB T n p = p) {c : Int} (hc : sgn c) (he : bA T n p = c) : ∃ s', m_takesSign c s = some (1, s') ∧ only [2] s s' ∧ mG T n s' (p + 1) := by
  have := m_takesSign_t h hc (by rw [hp]; exact he)
  rw [hp] at this
  exact this
/-- a bracket closes -/
theorem A_close (h : mQ T n tk s p C (W ++ rs.reverse ++ [br] ++ ops.reverse) b o) (hl : C.length + W.length + rs.length + ops.length < 1670) (hc : bA T n (rn qB T n p) = 41) (hbr : br = 20 ∨ br = 23 ∨ br = 24) (hops : ∀ y ∈ ops, ¬ brk y) (hs : s60 W b) (hy : ∀ y ∈ rs, 60 ≤ y) (hlo : (rs.length : Int) + 1 ≤ o) (hb : b ≤ W.length) : ∃ s', mAf k was (fl + 1) fo s = mAf k was fl fo s' ∧ only pks s s' ∧ mQ T n tk s' (rn qB T n p + 1) (C ++ ops ++ (if br = 20 then [] else [br - 18]) ++ rs) W b (o - 1 - rs.length) := by
  have h5 := h.b5
  obtain ⟨s1, e1, e2, e3⟩ := h.sk'
  have hin := bA_at (T := T) (n := n) (p := rn qB T n p) (by omega)
  have hlen : (W ++ rs.reverse).length = W.length + rs.length := by simp
  have hbk : brk br := by unfold brk; omega
  have qb := qBracket_t e3 (by rw [hlen]; simp; omega) (by rw [hlen]; omega) hbk (fun y hy => hops y (List.mem_reverse.mp hy))
  have g2 : s1 2 0 = rn qB T n p := e3.1.2.2.2.1
  have Q2 : mQ T n tk (up s1 2 0 (s1 2 0 + 1)) (rn qB T n p + 1) C (W ++ rs.reverse ++ [br] ++ ops.reverse) b o := e3.at2 (only.up (by decide)) (e3.1.sign (by rw [hc]; decide) hin.2 (only.up (by decide)) (by rw [up_s, g2]))
  obtain ⟨s3, d1, d2, d3⟩ := qDropsTo_ev (W1 := W ++ rs.reverse ++ [br]) (rs := ops) (Or.inr ⟨W ++ rs.reverse, br, rfl, hbk, by rw [hlen]; omega⟩) hops (by rw [List.length_append, hlen, List.length_singleton]; omega) Q2 (by rw [List.length_append, hlen, List.length_singleton]; omega)
  obtain ⟨s11, p1, p2, p3, p4, p5⟩ := pop_ev d3 (by rw [hlen]; omega) (by rw [hlen]; omega) (by omega)
  rw [hlen] at p4 p5
  have hok : ok 1700 (s11 99 0) := by rw [p4]; unfold ok; rw [i32_id (by omega) (by omega)]; omega
  have hbv : s11 98 (i32 (s11 99 0)) = br := by rw [p4, i32_id (by omega) (by omega)]; exact p5
  have hs0 : only pks s s11 := ((e2.mono (by decide)).tr (only.up (by decide))).tr (d2.tr p2)
  by_cases c20 : br = 20
  · obtain ⟨s', f1, f2, f3⟩ := qEnds_ev hs hy (by omega) (by rw [List.length_append]; omega) p3 hb
    refine ⟨s', ?_, hs0.tr f2, ?_⟩
    · unfold mAf
      suffices e : m_qGoesOn_L0 KGo (fl + 1) s = m_qGoesOn_L0 KGo fl s' by rw [e]
      rw [m_qGoesOn_L0]
      refine st_t (z32 h5) (st_bind e1 (st_t (by rw [hc]) (st_bind qb (st_bnd (st_t (by rw [c20]) (st_bnd (st_bind d1 (st_bnd (st_bnd ?_)))))))))
      rw [p1]
      exact st_gd hok (st_bnd (st_t (by rw [hbv, c20]) (st_bind f1 rfl)))
    · rw [if_pos c20, List.append_nil]
      exact f3
  · obtain ⟨s12, g1, g2', g3⟩ := qCode_ev p3 (by rw [List.length_append]; omega) (br - 18)
    obtain ⟨s', f1, f2, f3⟩ := qEnds_ev hs hy (by omega) (by rw [List.length_append, List.length_append, List.length_singleton]; omega) g3 hb
    refine ⟨s', ?_, (hs0.tr g2').tr f2, ?_⟩
    · unfold mAf
      suffices e : m_qGoesOn_L0 KGo (fl + 1) s = m_qGoesOn_L0 KGo fl s' by rw [e]
      rw [m_qGoesOn_L0]
      have nb20 : ¬ i32 br = i32 20 := ne32 (by omega) (by omega) c20
      refine st_t (z32 h5) (st_bind e1 (st_t (by rw [hc]) (st_bind qb (st_bnd (st_f nb20 (st_bind qb ?_))))))
      have nb23 : br = 24 → ¬ i32 br = i32 23 := fun c => ne32 (by omega) (by omega) (by omega)
      rcases (show br = 23 ∨ br = 24 by omega) with c | c
      · refine st_t (by rw [c]) (st_bnd (st_bind d1 (st_bnd (st_bnd ?_))))
        rw [p1]
        refine st_gd hok (st_bnd (st_f (by rw [hbv, c]; decide) (st_gd hok (st_bnd (st_t (by rw [hbv, c]) (st_bind (z := (0, s12)) ?_ (st_bind f1 rfl)))))))
        rw [c] at g1
        exact g1
      · refine st_f (nb23 c) (st_bind qb (st_t (by rw [c]) (st_bnd (st_bind d1 (st_bnd (st_bnd ?_))))))
        rw [p1]
        refine st_gd hok (st_bnd (st_f (by rw [hbv, c]; decide) (st_gd hok (st_bnd (st_f (by rw [hbv, c]; decide) (st_bind (z := (0, s12)) ?_ (st_bind f1 rfl)))))))
        rw [c] at g1
        exact g1
    · rw [if_neg c20]
      exact f3
/-- signs that wait are dropped -/
theorem go162 (k : Int → MS → Option (Int × MS)) {x : Int} (hs : s34 W) : ∀ (ops : List Int) (fuel : Nat) (C : List Int) (s : MS), ops.length < fuel → (∀ y ∈ ops, y = 3 ∨ y = 4) → C.length + W.length + ops.length < 1680 → mQ T n tk s p C (W ++ ops.reverse) b o → b ≤ W.length → ∃ s', m_qGoesOn_L162 k fuel x s = k x s' ∧ only pks s s' ∧ mQ T n tk s' p (C ++ ops) W b o := by
  intro ops
  induction ops with
  | nil =>
    intro fuel C s hf hy hl h hb
    obtain ⟨f, rfl⟩ : ∃ f, fuel = f + 1 := ⟨fuel - 1, by simp at hf; omega⟩
    simp only [List.reverse_nil, List.append_nil, List.length_nil] at h hl
    refine ⟨s, ?_, only.rf, by simpa using h⟩
    rw [m_qGoesOn_L162]
    rcases hs with hs | ⟨V, t, hV, h3, h4⟩
    · rw [hs] at h
      exact st_bind (qIsOn_nil h) (st_bnd (st_t i32_0 (st_bind (qIsOn_nil h) (st_t i32_0 rfl))))
    · rw [hV] at h
      rw [hV, List.length_append, List.length_singleton] at hl
      have q3 := qIsOn_at h (by omega) (x := 3) (by omega)
      have q4 := qIsOn_at h (by omega) (x := 4) (by omega)
      rw [decide_eq_false h3, b2i_f] at q3
      rw [decide_eq_false h4, b2i_f] at q4
      exact st_bind q3 (st_bnd (st_t i32_0 (st_bind q4 (st_t i32_0 rfl))))
  | cons y ops ih =>
    intro fuel C s hf hy hl h hb
    obtain ⟨f, rfl⟩ : ∃ f, fuel = f + 1 := ⟨fuel - 1, by simp at hf; omega⟩
    rw [List.reverse_cons, ← List.append_assoc] at h
    rw [List.length_cons] at hl hf
    have hlen : (W ++ ops.reverse).length = W.length + ops.length := by simp
    have hx := hy y List.mem_cons_self
    have q3 := qIsOn_at h (by rw [hlen]; omega) (x := 3) (by omega)
    have q4 := qIsOn_at h (by rw [hlen]; omega) (x := 4) (by omega)
    obtain ⟨s1, d1, d2, d3⟩ := qDrops_ev h (by rw [hlen]; omega) (by rw [hlen]; omega)
    obtain ⟨s', f1, f2, f3⟩ := ih f (C ++ [y]) s1 (by omega) (fun y hy' => hy y (List.mem_cons_of_mem _ hy')) (by rw [List.length_append, List.length_singleton]; omega) d3 hb
    rw [List.append_assoc, List.singleton_append] at f3
    refine ⟨s', ?_, d2.tr f2, f3⟩
    rw [m_qGoesOn_L162]
    rcases hx with hx | hx
    · rw [decide_eq_true hx, b2i_t] at q3
      exact st_bind q3 (st_bnd (st_f n10 (st_bind d1 f1)))
    · rw [decide_eq_false (by omega), b2i_f] at q3
      rw [decide_eq_true hx, b2i_t] at q4
      exact st_bind q3 (st_bnd (st_t i32_0 (st_bind q4 (st_f n10 (st_bind d1 f1)))))
theorem go247 (k : Int → MS → Option (Int × MS)) {x : Int} (hs : s14 W) : ∀ (ops : List Int) (fuel : Nat) (C : List Int) (s : MS), ops.length < fuel → (∀ y ∈ ops, 1 ≤ y ∧ y ≤ 4) → C.length + W.length + ops.length < 1680 → mQ T n tk s p C (W ++ ops.reverse) b o → b ≤ W.length → ∃ s', m_qGoesOn_L247 k fuel x s = k x s' ∧ only pks s s' ∧ mQ T n tk s' p (C ++ ops) W b o := by
  intro ops
  induction ops with
  | nil =>
    intro fuel C s hf hy hl h hb
    obtain ⟨f, rfl⟩ : ∃ f, fuel = f + 1 := ⟨fuel - 1, by simp at hf; omega⟩
    simp only [List.reverse_nil, List.append_nil, List.length_nil] at h hl
    refine ⟨s, ?_, only.rf, by simpa using h⟩
    rw [m_qGoesOn_L247]
    rcases hs with hs | ⟨V, t, hV, h3⟩
    · rw [hs] at h
      exact st_bind (qIsOn_nil h) (st_bnd (st_t i32_0 (st_bind (qIsOn_nil h) (st_t i32_0 (st_bind (qIsOn_nil h) (st_t i32_0 (st_bind (qIsOn_nil h) (st_t i32_0 rfl))))))))
    · rw [hV] at h
      rw [hV, List.length_append, List.length_singleton] at hl
      have q3 := qIsOn_at h (by omega) (x := 3) (by omega)
      have q4 := qIsOn_at h (by omega) (x := 4) (by omega)
      have q1 := qIsOn_at h (by omega) (x := 1) (by omega)
      have q2 := qIsOn_at h (by omega) (x := 2) (by omega)
      rw [decide_eq_false (by omega), b2i_f] at q3 q4 q1 q2
      exact st_bind q3 (st_bnd (st_t i32_0 (st_bind q4 (st_t i32_0 (st_bind q1 (st_t i32_0 (st_bind q2 (st_t i32_0 rfl))))))))
  | cons y ops ih =>
    intro fuel C s hf hy hl h hb
    obtain ⟨f, rfl⟩ : ∃ f, fuel = f + 1 := ⟨fuel - 1, by simp at hf; omega⟩
    rw [List.reverse_cons, ← List.append_assoc] at h
    rw [List.length_cons] at hl hf
    have hlen : (W ++ ops.reverse).length = W.length + ops.length := by simp
    have hx := hy y List.mem_cons_self
    have q3 := qIsOn_at h (by rw [hlen]; omega) (x := 3) (by omega)
    have q4 := qIsOn_at h (by rw [hlen]; omega) (x := 4) (by omega)
    have q1 := qIsOn_at h (by rw [hlen]; omega) (x := 1) (by omega)
    have q2 := qIsOn_at h (by rw [hlen]; omega) (x := 2) (by omega)
    obtain ⟨s1, d1, d2, d3⟩ := qDrops_ev h (by rw [hlen]; omega) (by rw [hlen]; omega)
    obtain ⟨s', f1, f2, f3⟩ := ih f (C ++ [y]) s1 (by omega) (fun y hy' => hy y (List.mem_cons_of_mem _ hy')) (by rw [List.length_append, List.length_singleton]; omega) d3 hb
    rw [List.append_assoc, List.singleton_append] at f3
    refine ⟨s', ?_, d2.tr f2, f3⟩
    rw [m_qGoesOn_L247]
    rcases (show y = 3 ∨ y = 4 ∨ y = 1 ∨ y = 2 by omega) with hx | hx | hx | hx
    · rw [decide_eq_true hx, b2i_t] at q3
      exact st_bind q3 (st_bnd (st_f n10 (st_bind d1 f1)))
    · rw [decide_eq_false (by omega), b2i_f] at q3
      rw [decide_eq_true hx, b2i_t] at q4
      exact st_bind q3 (st_bnd (st_t i32_0 (st_bind q4 (st_f n10 (st_bind d1 f1)))))
    · rw [decide_eq_false (by omega), b2i_f] at q3 q4
      rw [decide_eq_true hx, b2i_t] at q1
      exact st_bind q3 (st_bnd (st_t i32_0 (st_bind q4 (st_t i32_0 (st_bind q1 (st_f n10 (st_bind d1 f1)))))))
    · rw [decide_eq_false (by omega), b2i_f] at q3 q4 q1
      rw [decide_eq_true hx, b2i_t] at q2
      exact st_bind q3 (st_bnd (st_t i32_0 (st_bind q4 (st_t i32_0 (st_bind q1 (st_t i32_0 (st_bind q2 (st_f n10 (st_bind d1 f1)))))))))
theorem mAf_on (h : m_qGoesOn_L0 KGo fl s = some (1, s')) (h5 : s' 5 0 = 0) : mAf k was fl (fo + 1) s = mEf k was FU fo s' := by
  unfold mAf
  exact st_bind h (st_f n10 (L15_go h5))
theorem mAf_off (h : m_qGoesOn_L0 KGo fl s = some (0, s')) : mAf k was fl (fo + 1) s = k was s' := by
  unfold mAf
  exact st_bind h (st_t i32_0 L15_0)
theorem sgn42 : sgn 42 := by unfold sgn; decide
theorem sgn47 : sgn 47 := by unfold sgn; decide
theorem sgn43 : sgn 43 := by unfold sgn; decide
theorem sgn45 : sgn 45 := by unfold sgn; decide
theorem sgn44 : sgn 44 := by unfold sgn; decide
theorem A_times (h : mQ T n tk s p C (W ++ ops.reverse) b o) (hl : C.length + W.length + ops.length < 1670) (hc : bA T n (rn qB T n p) = 42 ∨ bA T n (rn qB T n p) = 47) (hs : s34 W) (hops : ∀ y ∈ ops, y = 3 ∨ y = 4) (hb : b ≤ W.length) : ∃ s', mAf k was (fl + 1) (fo + 1) s = mEf k was FU fo s' ∧ only pks s s' ∧ mQ T n tk s' (rn qB T n p + 1) (C ++ ops) (W ++ [cd (bA T n (rn qB T n p))]) b o := by
  have h5 := h.b5
  obtain ⟨s1, e1, e2, e3⟩ := h.sk'
  have hq := sk_sk T n p
  have hn := e3.1.1.1
  have hin := bA_at (T := T) (n := n) (p := rn qB T n p) (by omega)
  have hT := bA_in (T := T) hin.1 hin.2
  have hcs : sgn (bA T n (rn qB T n p)) := by rcases hc with h | h <;> rw [h]; exact sgn42; exact sgn47
  obtain ⟨s2, t1, t2, t3⟩ := takesSign_yes e3.1 hq hcs rfl
  have Q2 := e3.at2 t2 t3
  have g0 : s2 0 = T := t3.2.1
  have g2 : s2 2 0 = rn qB T n p + 1 := t3.2.2.2.1
  have hok : ok 1600 (s2 2 0 - 1) := by rw [g2]; unfold ok; rw [i32_id (by omega) (by omega)]; omega
  have htp : s2 0 (i32 (s2 2 0 - 1)) = bA T n (rn qB T n p) := by rw [g2, show rn qB T n p + 1 - 1 = rn qB T n p by omega, i32_id (by omega) (by omega), g0, hT]
  have hcd : cd (bA T n (rn qB T n p)) = 3 ∨ cd (bA T n (rn qB T n p)) = 4 := by rcases hc with h | h <;> rw [h]; exact Or.inl rfl; exact Or.inr rfl
  have gg : ∀ x : Int, (x = 3 ∨ x = 4) → ∃ s4, only pks s2 s4 ∧ mQ T n tk s4 (rn qB T n p + 1) (C ++ ops) (W ++ [x]) b o ∧ m_qGoesOn_L162 (fun (x1_47 : Int) (s48 : MS) =>
                  gd (ok 1700 (s48 99 0)) <|
                  bnd (up s48 98 (i32 (s48 99 0)) x1_47) fun s50 =>
                  bnd (up s50 99 0 ((s50 99 0) + 1)) fun s51 =>
                  some (1, s51)) FU x s2 = some (1, s4) := by
    intro x hx
    obtain ⟨s3, f1, f2, f3⟩ := go162 (fun (x1_47 : Int) (s48 : MS) =>
                  gd (ok 1700 (s48 99 0)) <|
                  bnd (up s48 98 (i32 (s48 99 0)) x1_47) fun s50 =>
                  bnd (up s50 99 0 ((s50 99 0) + 1)) fun s51 =>
                  some (1, s51)) (x := x) hs ops FU C s2 (by have := FU_ge; omega) hops (by omega) Q2 hb
    obtain ⟨s4, p1, p2, p3⟩ := push_ev f3 (by omega) (x := x) (by omega)
    refine ⟨s4, f2.tr p2, p3, ?_⟩
    rw [f1]
    refine st_gd ?_ (st_bnd (st_bnd ?_))
    · rw [f3.2.1.2.1]; unfold ok; rw [i32_id (by omega) (by omega)]; omega
    · rw [p1]
  obtain ⟨s4, k1, k2, k3⟩ := gg (cd (bA T n (rn qB T n p))) hcd
  refine ⟨s4, mAf_on ?_ k2.b5, ((e2.mono (by decide)).tr (t2.mono (by decide))).tr k1, k2⟩
  have hb1 := bA_b h.1.1 (rn qB T n p)
  rw [m_qGoesOn_L0]
  have n41 : ¬ i32 (bA T n (rn qB T n p)) = i32 41 := ne32 (by omega) (by omega) (by omega)
  refine st_t (z32 h5) (st_bind e1 (st_f n41 ?_))
  unfold KGo
  have nn : ¬ i32 47 = i32 42 := by decide
  rcases hc with hc | hc
  · rw [hc] at t1 htp
    rw [hc] at k3
    exact st_bind t1 (st_bnd (st_f n10 (st_gd hok (st_bnd (st_t (congrArg i32 htp) k3)))))
  · have tno := takesSign_no e3.1 hq (c := 42) (by omega) (by omega)
    rw [hc] at t1 htp
    rw [hc] at k3
    exact st_bind tno (st_bnd (st_t i32_0 (st_bind t1 (st_f n10 (st_gd hok (st_bnd (st_f (fun q => nn ((congrArg i32 htp).symm.trans q)) k3)))))))
theorem A_plus (h : mQ T n tk s p C (W ++ ops.reverse) b o) (hl : C.length + W.length + ops.length < 1670) (hc : bA T n (rn qB T n p) = 43 ∨ bA T n (rn qB T n p) = 45) (hs : s14 W) (hops : ∀ y ∈ ops, 1 ≤ y ∧ y ≤ 4) (hb : b ≤ W.length) : ∃ s', mAf k was (fl + 1) (fo + 1) s = mEf k was FU fo s' ∧ only pks s s' ∧ mQ T n tk s' (rn qB T n p + 1) (C ++ ops) (W ++ [cd (bA T n (rn qB T n p))]) b o := by
  have h5 := h.b5
  obtain ⟨s1, e1, e2, e3⟩ := h.sk'
  have hq := sk_sk T n p
  have hn := e3.1.1.1
  have hin := bA_at (T := T) (n := n) (p := rn qB T n p) (by omega)
  have hT := bA_in (T := T) hin.1 hin.2
  have hcs : sgn (bA T n (rn qB T n p)) := by rcases hc with h | h <;> rw [h]; exact sgn43; exact sgn45
  obtain ⟨s2, t1, t2, t3⟩ := takesSign_yes e3.1 hq hcs rfl
  have Q2 := e3.at2 t2 t3
  have g0 : s2 0 = T := t3.2.1
  have g2 : s2 2 0 = rn qB T n p + 1 := t3.2.2.2.1
  have hok : ok 1600 (s2 2 0 - 1) := by rw [g2]; unfold ok; rw [i32_id (by omega) (by omega)]; omega
  have htp : s2 0 (i32 (s2 2 0 - 1)) = bA T n (rn qB T n p) := by rw [g2, show rn qB T n p + 1 - 1 = rn qB T n p by omega, i32_id (by omega) (by omega), g0, hT]
  have hcd : cd (bA T n (rn qB T n p)) = 1 ∨ cd (bA T n (rn qB T n p)) = 2 := by rcases hc with h | h <;> rw [h]; exact Or.inl rfl; exact Or.inr rfl
  have gg : ∀ x : Int, (x = 1 ∨ x = 2) → ∃ s4, only pks s2 s4 ∧ mQ T n tk s4 (rn qB T n p + 1) (C ++ ops) (W ++ [x]) b o ∧ m_qGoesOn_L247 (fun (x1_79 : Int) (s80 : MS) =>
                      gd (ok 1700 (s80 99 0)) <|
                      bnd (up s80 98 (i32 (s80 99 0)) x1_79) fun s82 =>
                      bnd (up s82 99 0 ((s82 99 0) + 1)) fun s83 =>
                      some (1, s83)) FU x s2 = some (1, s4) := by
    intro x hx
    obtain ⟨s3, f1, f2, f3⟩ := go247 (fun (x1_79 : Int) (s80 : MS) =>
                      gd (ok 1700 (s80 99 0)) <|
                      bnd (up s80 98 (i32 (s80 99 0)) x1_79) fun s82 =>
                      bnd (up s82 99 0 ((s82 99 0) + 1)) fun s83 =>
                      some (1, s83)) (x := x) hs ops FU C s2 (by have := FU_ge; omega) hops (by omega) Q2 hb
    obtain ⟨s4, p1, p2, p3⟩ := push_ev f3 (by omega) (x := x) (by omega)
    refine ⟨s4, f2.tr p2, p3, ?_⟩
    rw [f1]
    refine st_gd ?_ (st_bnd (st_bnd ?_))
    · rw [f3.2.1.2.1]; unfold ok; rw [i32_id (by omega) (by omega)]; omega
    · rw [p1]
  obtain ⟨s4, k1, k2, k3⟩ := gg (cd (bA T n (rn qB T n p))) hcd
  refine ⟨s4, mAf_on ?_ k2.b5, ((e2.mono (by decide)).tr (t2.mono (by decide))).tr k1, k2⟩
  have hb1 := bA_b h.1.1 (rn qB T n p)
  rw [m_qGoesOn_L0]
  have n41 : ¬ i32 (bA T n (rn qB T n p)) = i32 41 := ne32 (by omega) (by omega) (by omega)
  refine st_t (z32 h5) (st_bind e1 (st_f n41 ?_))
  unfold KGo
  have tno := takesSign_no e3.1 hq (c := 42) (by omega) (by omega)
  have tno2 := takesSign_no e3.1 hq (c := 47) (by omega) (by omega)
  have nn : ¬ i32 45 = i32 43 := by decide
  rcases hc with hc | hc
  · rw [hc] at t1 htp
    rw [hc] at k3
    exact st_bind tno (st_bnd (st_t i32_0 (st_bind tno2 (st_t i32_0 (st_bind t1 (st_bnd (st_f n10 (st_gd hok (st_bnd (st_t (congrArg i32 htp) k3))))))))))
  · have tno3 := takesSign_no e3.1 hq (c := 43) (by omega) (by omega)
    rw [hc] at t1 htp
    rw [hc] at k3
    exact st_bind tno (st_bnd (st_t i32_0 (st_bind tno2 (st_t i32_0 (st_bind tno3 (st_bnd (st_t i32_0 (st_bind t1 (st_f n10 (st_gd hok (st_bnd (st_f (fun q => nn ((congrArg i32 htp).symm.trans q)) k3))))))))))))
/-- no sign of a sum: the loop's end, by the bracket that is open -/
def nsg (c : Int) : Prop := c ≠ 42 ∧ c ≠ 47 ∧ c ≠ 43 ∧ c ≠ 45
theorem A_comma (h : mQ T n tk s p C (W ++ [br] ++ ops.reverse) b o) (hl : C.length + W.length + ops.length < 1670) (hc : bA T n (rn qB T n p) = 44) (hbr : br = 21 ∨ br = 22) (hops : ∀ y ∈ ops, ¬ brk y) (hb : b ≤ W.length) : ∃ s', mAf k was (fl + 1) (fo + 1) s = mEf k was FU fo s' ∧ only pks s s' ∧ mQ T n tk s' (rn qB T n p + 1) (C ++ ops) (W ++ [br + 2]) b o := by
  have h5 := h.b5
  obtain ⟨s1, e1, e2, e3⟩ := h.sk'
  have hq := sk_sk T n p
  have hbk : brk br := by unfold brk; omega
  have qb := qBracket_t e3 (by simp; omega) hb hbk (fun y hy => hops y (List.mem_reverse.mp hy))
  obtain ⟨s2, t1, t2, t3⟩ := m_asksSign_t e3.1 sgn44 (by rw [hq]; exact hc)
  rw [hq] at t3
  have Q2 := e3.at2 t2 t3
  obtain ⟨s3, d1, d2, d3⟩ := qDropsTo_ev (W1 := W ++ [br]) (rs := ops) (Or.inr ⟨W, br, rfl, hbk, hb⟩) hops (by rw [List.length_append, List.length_singleton]; omega) Q2 (by rw [List.length_append, List.length_singleton]; omega)
  obtain ⟨g, ⟨⟨a1, a2⟩, a3, a4⟩, ⟨a5, a6⟩, a7, a8, a9, a10⟩ := id d3
  rw [List.length_append, List.length_singleton] at a3
  have e9 : s3 99 0 - 1 = W.length := by omega
  have hbv : s3 98 (i32 (s3 99 0 - 1)) = br := by rw [e9, i32_id (by omega) (by omega)]; exact a4.last
  have hok : ok 1700 (s3 99 0 - 1) := by rw [e9]; unfold ok; rw [i32_id (by omega) (by omega)]; omega
  have ho' : only [98] s3 (up s3 98 (i32 (s3 99 0 - 1)) (s3 98 (i32 (s3 99 0 - 1)) + 2)) := only.up (by decide)
  have Q4 : mQ T n tk (up s3 98 (i32 (s3 99 0 - 1)) (s3 98 (i32 (s3 99 0 - 1)) + 2)) (rn qB T n p + 1) (C ++ ops) (W ++ [br + 2]) b o := by
    refine ⟨g.of' ho' (by decide), ⟨⟨by rw [ho' 97 (by decide)]; exact a1, a2.of (ho' 96 (by decide))⟩, by rw [ho' 99 (by decide), a3, List.length_append, List.length_singleton], ?_⟩, ⟨by rw [ho' 100 (by decide)]; exact a5, by rw [ho' 101 (by decide)]; exact a6⟩, by rw [ho' 47 (by decide)]; exact a7, a8, ⟨a9.1, by rw [List.length_append, List.length_singleton]; omega⟩, fun y hy => ?_⟩
    · rw [hbv, e9, i32_id (by omega) (by omega)]
      exact a4.pre.snoc (br + 2)
    · rcases List.mem_append.mp hy with hy | hy
      · exact a10 y (List.mem_append_left _ hy)
      · rw [List.mem_singleton.mp hy]; omega
  refine ⟨_, mAf_on ?_ Q4.b5, ((e2.mono (by decide)).tr (t2.mono (by decide))).tr (d2.tr (ho'.mono (by decide))), Q4⟩
  have hb1 := bA_b h.1.1 (rn qB T n p)
  have tno := takesSign_no e3.1 hq (c := 42) (by omega) (by omega)
  have tno2 := takesSign_no e3.1 hq (c := 47) (by omega) (by omega)
  have tno3 := takesSign_no e3.1 hq (c := 43) (by omega) (by omega)
  have tno4 := takesSign_no e3.1 hq (c := 45) (by omega) (by omega)
  have g5 : s2 5 0 = 0 := Q2.b5
  rw [m_qGoesOn_L0]
  have n41 : ¬ i32 (bA T n (rn qB T n p)) = i32 41 := ne32 (by omega) (by omega) (by omega)
  refine st_t (z32 h5) (st_bind e1 (st_f n41 ?_))
  unfold KGo
  refine st_bind tno (st_bnd (st_t i32_0 (st_bind tno2 (st_t i32_0 (st_bind tno3 (st_bnd (st_t i32_0 (st_bind tno4 (st_t i32_0 (st_bind qb (st_bnd ?_)))))))))))
  rcases hbr with hbr | hbr
  · exact st_t (by rw [hbr]) (st_bind t1 (st_t (z32 g5) (st_bind d1 (st_gd hok (st_gd hok (st_bnd rfl))))))
  · have nb21 : ¬ i32 br = i32 21 := ne32 (by omega) (by omega) (by omega)
    exact st_f nb21 (st_bind qb (st_t (by rw [hbr]) (st_bind t1 (st_t (z32 g5) (st_bind d1 (st_gd hok (st_gd hok (st_bnd rfl))))))))
/-- where a bracket is open and neither it nor a sign goes on -/
theorem A_bad (h : mQ T n tk s p C (W ++ [br] ++ ops.reverse) b o) (hlC : C.length < 1690) (hl : W.length + ops.length < 1670) (hn : nsg (bA T n (rn qB T n p))) (hc : ((br = 21 ∨ br = 22) ∧ bA T n (rn qB T n p) ≠ 44) ∨ ((br = 20 ∨ br = 23 ∨ br = 24) ∧ bA T n (rn qB T n p) ≠ 41)) (hops : ∀ y ∈ ops, ¬ brk y) (hb : b ≤ W.length) : ∃ s', mAf k was (fl + 1) (fo + 1) s = k was s' ∧ mBq 1 (rn qB T n p) s s' := by
  have h5 := h.b5
  obtain ⟨s1, e1, e2, e3⟩ := h.sk'
  have hq := sk_sk T n p
  have hbk : brk br := by unfold brk; omega
  have qb := qBracket_t e3 (by simp; omega) hb hbk (fun y hy => hops y (List.mem_reverse.mp hy))
  have hb1 := bA_b h.1.1 (rn qB T n p)
  obtain ⟨n1, n2, n3, n4⟩ := hn
  have tno := takesSign_no e3.1 hq (c := 42) (by omega) n1
  have tno2 := takesSign_no e3.1 hq (c := 47) (by omega) n2
  have tno3 := takesSign_no e3.1 hq (c := 43) (by omega) n3
  have tno4 := takesSign_no e3.1 hq (c := 45) (by omega) n4
  have g2 : s1 2 0 = rn qB T n p := e3.1.2.2.2.1
  have g5 := e3.b5
  rcases hc with ⟨hbr, hc⟩ | ⟨hbr, hc⟩
  · obtain ⟨s2, t1, t2⟩ := m_asksSign_f e3.1 sgn44 (by rw [hq]; exact hc)
    rw [hq] at t2
    refine ⟨s2, mAf_off ?_, t2.q (e2.mono (by decide)) (e3.c97 hlC)⟩
    have nb5 : ¬ i32 (s2 5 0) = 0 := by rw [t2.2.1]; decide
    have tail : KGo s1 = some (0, s2) := by
      unfold KGo
      refine st_bind tno (st_bnd (st_t i32_0 (st_bind tno2 (st_t i32_0 (st_bind tno3 (st_bnd (st_t i32_0 (st_bind tno4 (st_t i32_0 (st_bind qb (st_bnd ?_)))))))))))
      rcases hbr with hbr | hbr
      · exact st_t (by rw [hbr]) (st_bind t1 (st_f nb5 rfl))
      · have nb21 : ¬ i32 br = i32 21 := ne32 (by omega) (by omega) (by omega)
        exact st_f nb21 (st_bind qb (st_t (by rw [hbr]) (st_bind t1 (st_f nb5 rfl))))
    rw [m_qGoesOn_L0]
    refine st_t (z32 h5) (st_bind e1 ?_)
    by_cases c41 : bA T n (rn qB T n p) = 41
    · have nb20 : ¬ i32 br = i32 20 := ne32 (by omega) (by omega) (by omega)
      have nb23 : ¬ i32 br = i32 23 := ne32 (by omega) (by omega) (by omega)
      have nb24 : ¬ i32 br = i32 24 := ne32 (by omega) (by omega) (by omega)
      exact st_t (by rw [c41]) (st_bind qb (st_bnd (st_f nb20 (st_bind qb (st_f nb23 (st_bind qb (st_f nb24 tail)))))))
    · exact st_f (ne32 (by omega) (by omega) c41) tail
  · have nb21 : ¬ i32 br = i32 21 := ne32 (by omega) (by omega) (by omega)
    have nb22 : ¬ i32 br = i32 22 := ne32 (by omega) (by omega) (by omega)
    have nbm : ¬ i32 br = i32 (-1) := n1m (by omega)
    refine ⟨up (up s1 5 0 1) 6 0 (s1 2 0), mAf_off ?_, ?_⟩
    · rw [m_qGoesOn_L0]
      refine st_t (z32 h5) (st_bind e1 (st_f (ne32 (by omega) (by omega) hc) ?_))
      unfold KGo
      exact st_bind tno (st_bnd (st_t i32_0 (st_bind tno2 (st_t i32_0 (st_bind tno3 (st_bnd (st_t i32_0 (st_bind tno4 (st_t i32_0 (st_bind qb (st_bnd (st_f nb21 (st_bind qb (st_f nb22 (st_bind qb (st_f nbm (st_t (z32 g5) (st_bind (m_fail_ev g5) rfl))))))))))))))))))
    · rw [g2]
      exact (mB.up (k := 1) (pl := rn qB T n p) (s := s1) (ks := []) only.rf (by simp)).q (e2.mono (by decide)) (e3.c97 hlC)
/-- the sum's end -/
theorem A_end (h : mQ T n tk s p C (W ++ ops.reverse) b o) (hl : W.length + ops.length < 1670) (hn : nsg (bA T n (rn qB T n p))) (hops : ∀ y ∈ ops, ¬ brk y) (hb : (W.length : Int) = b) : ∃ s', mAf k was (fl + 1) (fo + 1) s = k was s' ∧ only pks s s' ∧ mQ T n tk s' (rn qB T n p) C (W ++ ops.reverse) b o := by
  have h5 := h.b5
  obtain ⟨s1, e1, e2, e3⟩ := h.sk'
  have hq := sk_sk T n p
  have qb := qBracket_n e3 (by simp; omega) hb (fun y hy => hops y (List.mem_reverse.mp hy))
  have hb1 := bA_b h.1.1 (rn qB T n p)
  obtain ⟨n1, n2, n3, n4⟩ := hn
  have tno := takesSign_no e3.1 hq (c := 42) (by omega) n1
  have tno2 := takesSign_no e3.1 hq (c := 47) (by omega) n2
  have tno3 := takesSign_no e3.1 hq (c := 43) (by omega) n3
  have tno4 := takesSign_no e3.1 hq (c := 45) (by omega) n4
  refine ⟨s1, mAf_off ?_, e2.mono (by decide), e3⟩
  have m20 : ¬ i32 (-1) = i32 20 := by decide
  have m21 : ¬ i32 (-1) = i32 21 := by decide
  have m22 : ¬ i32 (-1) = i32 22 := by decide
  have m23 : ¬ i32 (-1) = i32 23 := by decide
  have m24 : ¬ i32 (-1) = i32 24 := by decide
  have tail : KGo s1 = some (0, s1) := by
    unfold KGo
    exact st_bind tno (st_bnd (st_t i32_0 (st_bind tno2 (st_t i32_0 (st_bind tno3 (st_bnd (st_t i32_0 (st_bind tno4 (st_t i32_0 (st_bind qb (st_bnd (st_f m21 (st_bind qb (st_f m22 (st_bind qb (st_t rfl rfl))))))))))))))))
  rw [m_qGoesOn_L0]
  refine st_t (z32 h5) (st_bind e1 ?_)
  by_cases c41 : bA T n (rn qB T n p) = 41
  · refine st_t (by rw [c41]) (st_bind qb (st_bnd (st_f m20 (st_bind qb (st_f m23 (st_bind qb (st_f m24 tail)))))))
  · exact st_f (ne32 (by omega) (by omega) c41) tail
end
