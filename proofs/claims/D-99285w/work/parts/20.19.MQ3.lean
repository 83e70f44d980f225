set_option maxRecDepth 100000
/-! LAYER 2: the reference reads a part -/
section
variable {T : Int → Int} {n p tk b o : Int} {s s' : MS} {C W rs : List Int} {k : Int → MS → Option (Int × MS)} {was : Int} {fi fo fl : Nat}
theorem E_paren (h : mQ T n tk s p C W b o) (htk : tk = 0 ∨ tk = 1) (hl : C.length + W.length < 1680) (hc : bA T n (rn qB T n p) = 40) (ho : o < 6) : ∃ s', mEf k was (fi + 1) fo s = mEf k was fi fo s' ∧ only pks s s' ∧ mQ T n tk s' (rn qB T n p + 1) C (W ++ [20]) b (o + 1) := by
  have h5 := h.b5
  obtain ⟨s1, e1, e2, e3⟩ := h.sk'
  have hq := sk_sk T n p
  have hin := bA_at (T := T) (n := n) (p := rn qB T n p) (by omega)
  have hof := of_ev e3.1 hq e3.2.2.2.1 htk
  rw [wcA_40 (by rw [hc]; decide), if_neg (by omega)] at hof
  obtain ⟨s2, f1, f2, f3⟩ := qOpens_f e3 (by omega) ho (x := 20) (pl := rn qB T n p) (by omega)
  have g2 : s1 2 0 = rn qB T n p := e3.1.2.2.2.1
  have g2' : s2 2 0 = rn qB T n p := f3.1.2.2.2.1
  refine ⟨up s2 2 0 (rn qB T n p + 1), ?_, (e2.mono (by decide)).tr ((f2.mono (by decide)).tr (only.up (by decide))), f3.at2 (only.up (by decide)) (f3.1.sign (by rw [hc]; decide) hin.2 (only.up (by decide)) (by rw [up_s]))⟩
  unfold mEf
  suffices e : m_qPartTold_L2 KPt (fi + 1) 1 s = m_qPartTold_L2 KPt fi 1 (up s2 2 0 (rn qB T n p + 1)) by rw [e]
  rw [m_qPartTold_L2]
  refine st_f n10 (st_t (by rw [h5]; exact i32_0) (st_bind e1 (st_bnd (st_bind hof (st_bnd (st_bnd (st_t ?_ (st_bind (z := (0, s2)) ?_ (st_bnd ?_)))))))))
  · rw [hc]
  · show m_qOpens 20 (s1 2 0) s1 = _
    rw [g2]; exact f1
  · show m_qPartTold_L2 KPt fi 1 (up s2 2 0 (s2 2 0 + 1)) = _
    rw [g2']
theorem E_paren6 (h : mQ T n tk s p C W b o) (hlC : C.length < 1690) (htk : tk = 0 ∨ tk = 1) (hc : bA T n (rn qB T n p) = 40) (ho : o = 6) : ∃ s', mEf k was (fi + 2) (fo + 1) s = k was s' ∧ mBq 4 (rn qB T n p) s s' := by
  have h5 := h.b5
  obtain ⟨s1, e1, e2, e3⟩ := h.sk'
  have hq := sk_sk T n p
  have hof := of_ev e3.1 hq e3.2.2.2.1 htk
  rw [wcA_40 (by rw [hc]; decide), if_neg (by omega)] at hof
  obtain ⟨s2, f1, f2⟩ := qOpens_t e3 ho (x := 20) (pl := rn qB T n p)
  have g2 : s1 2 0 = rn qB T n p := e3.1.2.2.2.1
  have b5 : up s2 2 0 (s2 2 0 + 1) 5 0 = 4 := by rw [up_k _ _ _ _ (by decide)]; exact f2.2.1
  refine ⟨up s2 2 0 (s2 2 0 + 1), ?_, ?_⟩
  · rw [← E_bad (k := k) (was := was) (fi := fi) (fo := fo) b5 (by omega)]
    unfold mEf
    suffices e : m_qPartTold_L2 KPt (fi + 1 + 1) 1 s = m_qPartTold_L2 KPt (fi + 1) 1 (up s2 2 0 (s2 2 0 + 1)) by rw [e]
    conv => lhs; rw [m_qPartTold_L2]
    refine st_f n10 (st_t (by rw [h5]; exact i32_0) (st_bind e1 (st_bnd (st_bind hof (st_bnd (st_bnd (st_t ?_ (st_bind (z := (0, s2)) ?_ (st_bnd rfl)))))))))
    · rw [hc]
    · show m_qOpens 20 (s1 2 0) s1 = _
      rw [g2]; exact f1
  · obtain ⟨q1, q2, q3, q4⟩ := f2.q (e2.mono (by decide)) (e3.c97 hlC)
    exact ⟨q1.tr (only.up (by decide)), b5, by rw [up_k _ _ _ _ (by decide)]; exact q3, by rw [up_row (by decide)]; exact q4⟩
/-- min, max: up to the bracket -/
theorem E_min_go (h : mQ T n tk s p C W b o) (htk : tk = 0 ∨ tk = 1) (hw : wcA tk T n (rn qB T n p) = 11 ∨ wcA tk T n (rn qB T n p) = 12) : ∃ s2, only pks s s2 ∧ mQ T n tk s2 (rn qB T n (rn qL T n (rn qB T n p))) C W b o ∧
    (bA T n (rn qB T n (rn qL T n (rn qB T n p))) = 40 → ∀ s3 s4, m_qOpens (wcA tk T n (rn qB T n p) + 10) (rn qB T n (rn qL T n (rn qB T n p))) s2 = some (0, s3) → m_asksSign 40 s3 = some (0, s4) → mEf k was (fi + 1) fo s = mEf k was fi fo s4) ∧
    (bA T n (rn qB T n (rn qL T n (rn qB T n p))) ≠ 40 → ∀ s4, m_asksSign 40 s2 = some (0, s4) → mEf k was (fi + 1) fo s = mEf k was fi fo s4) := by
  have h5 := h.b5
  obtain ⟨s1, e1, e2, e3⟩ := h.sk'
  have hq := sk_sk T n p
  have hof := of_ev e3.1 hq e3.2.2.2.1 htk
  rw [if_neg (by omega)] at hof
  obtain ⟨m1, m2⟩ := min_ev (tk := tk) e3.1 hq
  have h40 := wcA_L (tk := tk) (T := T) (n := n) (q := rn qB T n p) (by omega)
  have hb := bA_b h.1.1 (rn qB T n p)
  obtain ⟨w1, w2⟩ := wcA_11 hw
  have hG := e3.1
  have c40 : ¬ i32 (bA T n (rn qB T n p)) = i32 40 := ne32 (by omega) (by omega) h40
  have hb2 := bA_b h.1.1 (rn qB T n (rn qL T n (rn qB T n p)))
  have z0 : i32 0 = 0 := i32_0
  rcases hw with hw | hw
  · rw [hw] at w1 w2 m1 m2 ⊢
    obtain ⟨s1', a1, a2, a3⟩ := m_takes_t hG (a := 83) (by decide) (by rw [hq]; exact w1)
    rw [hq] at a3
    have Q1 := e3.at' a2 a3
    obtain ⟨s2, c1, c2, c3⟩ := Q1.sk'
    have hp2 := c3.1.2.2.2.2.2.1
    have hn := c3.1.1.1
    have g2 : s2 2 0 = rn qB T n (rn qL T n (rn qB T n p)) := c3.1.2.2.2.1
    refine ⟨s2, (e2.mono (by decide)).tr ((a2.mono (by decide)).tr (c2.mono (by decide))), c3, fun hc s3 s4 d1 d2 => ?_, fun hc s4 d1 => ?_⟩
    · unfold mEf
      suffices e : m_qPartTold_L2 KPt (fi + 1) 1 s = m_qPartTold_L2 KPt fi 1 s4 by rw [e]
      rw [m_qPartTold_L2]
      refine st_f n10 (st_t (by rw [h5]; exact i32_0) (st_bind e1 (st_bnd (st_bind hof (st_bnd (st_bnd (st_f c40 (st_bind m1 (st_bnd (st_f n10 (st_bind a1 (st_bnd (st_bnd (st_f n10 (st_bind c1 (st_bnd (st_t (by rw [hc]) (st_bnd (st_f (n1m (by show 0 ≤ s2 2 0 ∧ s2 2 0 < 10000; rw [g2]; omega)) (st_bnd (st_f n10 (st_bind (z := (0, s3)) ?_ (st_bind d2 rfl))))))))))))))))))))))) 
      show m_qOpens 21 (s2 2 0) s2 = _
      rw [g2]; exact d1
    · unfold mEf
      suffices e : m_qPartTold_L2 KPt (fi + 1) 1 s = m_qPartTold_L2 KPt fi 1 s4 by rw [e]
      rw [m_qPartTold_L2]
      exact st_f n10 (st_t (by rw [h5]; exact i32_0) (st_bind e1 (st_bnd (st_bind hof (st_bnd (st_bnd (st_f c40 (st_bind m1 (st_bnd (st_f n10 (st_bind a1 (st_bnd (st_bnd (st_f n10 (st_bind c1 (st_bnd (st_f (ne32 (by omega) (by omega) hc) (st_bnd (st_t rfl (st_bind d1 rfl))))))))))))))))))))
  · rw [hw] at w1 w2 m1 m2 ⊢
    obtain ⟨s0', z1, z2, z3⟩ := m_takes_f hG (a := 83) (by decide) (by rw [hq]; exact w1)
    rw [hq] at z3
    obtain ⟨s1', a1, a2, a3⟩ := m_asks_t z3 (a := 84) (by decide) (by rw [hq]; exact w2)
    rw [hq] at a3
    have Q1 := (e3.at2 z2 z3).at' a2 a3
    obtain ⟨s2, c1, c2, c3⟩ := Q1.sk'
    have hp2 := c3.1.2.2.2.2.2.1
    have hn := c3.1.1.1
    have g2 : s2 2 0 = rn qB T n (rn qL T n (rn qB T n p)) := c3.1.2.2.2.1
    refine ⟨s2, (e2.mono (by decide)).tr ((z2.mono (by decide)).tr ((a2.mono (by decide)).tr (c2.mono (by decide)))), c3, fun hc s3 s4 d1 d2 => ?_, fun hc s4 d1 => ?_⟩
    · unfold mEf
      suffices e : m_qPartTold_L2 KPt (fi + 1) 1 s = m_qPartTold_L2 KPt fi 1 s4 by rw [e]
      rw [m_qPartTold_L2]
      refine st_f n10 (st_t (by rw [h5]; exact i32_0) (st_bind e1 (st_bnd (st_bind hof (st_bnd (st_bnd (st_f c40 (st_bind m1 (st_bnd (st_t z0 (st_bind m2 (st_f n10 (st_bind z1 (st_bnd (st_bnd (st_t z0 (st_bind a1 (st_bind c1 (st_bnd (st_t (by rw [hc]) (st_bnd (st_f (n1m (by show 0 ≤ s2 2 0 ∧ s2 2 0 < 10000; rw [g2]; omega)) (st_bnd (st_t z0 (st_bind (z := (0, s3)) ?_ (st_bind d2 rfl))))))))))))))))))))))))))
      show m_qOpens 22 (s2 2 0) s2 = _
      rw [g2]; exact d1
    · unfold mEf
      suffices e : m_qPartTold_L2 KPt (fi + 1) 1 s = m_qPartTold_L2 KPt fi 1 s4 by rw [e]
      rw [m_qPartTold_L2]
      exact st_f n10 (st_t (by rw [h5]; exact i32_0) (st_bind e1 (st_bnd (st_bind hof (st_bnd (st_bnd (st_f c40 (st_bind m1 (st_bnd (st_t z0 (st_bind m2 (st_f n10 (st_bind z1 (st_bnd (st_bnd (st_t z0 (st_bind a1 (st_bind c1 (st_bnd (st_f (ne32 (by omega) (by omega) hc) (st_bnd (st_t rfl (st_bind d1 rfl)))))))))))))))))))))))
theorem E_min (h : mQ T n tk s p C W b o) (htk : tk = 0 ∨ tk = 1) (hl : C.length + W.length < 1680) (hw : wcA tk T n (rn qB T n p) = 11 ∨ wcA tk T n (rn qB T n p) = 12) (hc : bA T n (rn qB T n (rn qL T n (rn qB T n p))) = 40) (ho : o < 6) : ∃ s', mEf k was (fi + 1) fo s = mEf k was fi fo s' ∧ only pks s s' ∧ mQ T n tk s' (rn qB T n (rn qL T n (rn qB T n p)) + 1) C (W ++ [wcA tk T n (rn qB T n p) + 10]) b (o + 1) := by
  obtain ⟨s2, a1, a2, a3, -⟩ := E_min_go (k := k) (was := was) (fi := fi) (fo := fo) h htk hw
  obtain ⟨s3, f1, f2, f3⟩ := qOpens_f a2 (by omega) ho (x := wcA tk T n (rn qB T n p) + 10) (pl := rn qB T n (rn qL T n (rn qB T n p))) (by omega)
  obtain ⟨s4, g1, g2, g3⟩ := m_asksSign_t f3.1 sgn40 (by rw [sk_sk]; exact hc)
  rw [sk_sk] at g3
  exact ⟨s4, a3 hc s3 s4 f1 g1, a1.tr ((f2.mono (by decide)).tr (g2.mono (by decide))), f3.at2 g2 g3⟩
theorem E_min6 (h : mQ T n tk s p C W b o) (hlC : C.length < 1690) (htk : tk = 0 ∨ tk = 1) (hw : wcA tk T n (rn qB T n p) = 11 ∨ wcA tk T n (rn qB T n p) = 12) (hc : bA T n (rn qB T n (rn qL T n (rn qB T n p))) = 40) (ho : o = 6) : ∃ s', mEf k was (fi + 2) (fo + 1) s = k was s' ∧ mBq 4 (rn qB T n (rn qL T n (rn qB T n p))) s s' := by
  obtain ⟨s2, a1, a2, a3, -⟩ := E_min_go (k := k) (was := was) (fi := fi + 1) (fo := fo + 1) h htk hw
  obtain ⟨s3, f1, f2⟩ := qOpens_t a2 ho (x := wcA tk T n (rn qB T n p) + 10) (pl := rn qB T n (rn qL T n (rn qB T n p)))
  exact ⟨s3, (a3 hc s3 s3 f1 (asksSign_bad f2.2.1 (by omega))).trans (E_bad f2.2.1 (by omega)), f2.q a1 (a2.c97 hlC)⟩
theorem E_minN (h : mQ T n tk s p C W b o) (hlC : C.length < 1690) (htk : tk = 0 ∨ tk = 1) (hw : wcA tk T n (rn qB T n p) = 11 ∨ wcA tk T n (rn qB T n p) = 12) (hc : bA T n (rn qB T n (rn qL T n (rn qB T n p))) ≠ 40) : ∃ s', mEf k was (fi + 2) (fo + 1) s = k was s' ∧ mBq 1 (rn qB T n (rn qL T n (rn qB T n p))) s s' := by
  obtain ⟨s2, a1, a2, -, a3⟩ := E_min_go (k := k) (was := was) (fi := fi + 1) (fo := fo + 1) h htk hw
  obtain ⟨s3, f1, f2⟩ := m_asksSign_f a2.1 sgn40 (by rw [sk_sk]; exact hc)
  rw [sk_sk] at f2
  exact ⟨s3, (a3 hc s3 f1).trans (E_bad f2.2.1 (by omega)), f2.q a1 (a2.c97 hlC)⟩
/-- given, well of a part -/
theorem wcA_wo {q : Int} (h : 0 ≤ wcA tk T n q) (h2 : wcA tk T n q < 11) : hereW T n q (wo (85 + (wcA tk T n q).toNat)) = true ∧ (if tk = 0 then wcA tk T n q < 5 else wcA tk T n q = 0 ∨ 3 < wcA tk T n q) := by
  obtain ⟨c, e⟩ := wcA_at (tk := tk) (T := T) (n := n) (q := q) (by omega)
  rw [e] at h h2 ⊢
  unfold wc at *
  by_cases c1 : wrd T n q = wo 83
  · rw [if_pos c1] at h2; omega
  · rw [if_neg c1] at h h2 ⊢
    by_cases c2 : wrd T n q = wo 84
    · rw [if_pos c2] at h2; omega
    · rw [if_neg c2] at h h2 ⊢
      by_cases c3 : 0 ≤ wIx tk (wrd T n q) ∧ (if tk = 0 then wIx tk (wrd T n q) < 5 else wIx tk (wrd T n q) = 0 ∨ 3 < wIx tk (wrd T n q))
      · rw [if_pos c3] at h h2 ⊢
        refine ⟨?_, c3.2⟩
        unfold hereW
        rw [c.1, c.2, ← wIx_wo c3.1]
        simp
      · rw [if_neg c3] at h; omega
theorem E_of (h : mQ T n tk s p C W b o) (htk : tk = 0 ∨ tk = 1) (hl : C.length + W.length < 1680) (hw : 9 ≤ wcA tk T n (rn qB T n p) ∧ wcA tk T n (rn qB T n p) < 11) (ho : o < 6) : ∃ s', mEf k was (fi + 1) fo s = mEf k was fi fo s' ∧ only pks s s' ∧ mQ T n tk s' (rn qL T n (rn qB T n p)) C (W ++ [51 + wcA tk T n (rn qB T n p)]) b (o + 1) := by
  have h5 := h.b5
  obtain ⟨s1, e1, e2, e3⟩ := h.sk'
  have hq := sk_sk T n p
  have hof := of_ev e3.1 hq e3.2.2.2.1 htk
  rw [if_pos hw] at hof
  obtain ⟨m1, m2⟩ := min_ev (tk := tk) e3.1 hq
  have h40 := wcA_L (tk := tk) (T := T) (n := n) (q := rn qB T n p) (by omega)
  have hb := bA_b h.1.1 (rn qB T n p)
  have c40 : ¬ i32 (bA T n (rn qB T n p)) = i32 40 := ne32 (by omega) (by omega) h40
  rw [decide_eq_false (by omega), b2i_f] at m1 m2
  obtain ⟨s2, f1, f2, f3⟩ := qOpens_f e3 (by omega) ho (x := 51 + wcA tk T n (rn qB T n p)) (pl := rn qB T n p) (by omega)
  have g2 : s1 2 0 = rn qB T n p := e3.1.2.2.2.1
  obtain ⟨hw1, -⟩ := wcA_wo (tk := tk) (T := T) (n := n) (q := rn qB T n p) (by omega) (by omega)
  obtain ⟨s3, a1, a2, a3⟩ := qAsksWord_ev f3.1 (k := wcA tk T n (rn qB T n p)) (by omega) (by rw [hq]; exact hw1)
  rw [hq] at a3
  refine ⟨s3, ?_, (e2.mono (by decide)).tr ((f2.mono (by decide)).tr (a2.mono (by decide))), f3.at' a2 a3⟩
  unfold mEf
  suffices e : m_qPartTold_L2 KPt (fi + 1) 1 s = m_qPartTold_L2 KPt fi 1 s3 by rw [e]
  rw [m_qPartTold_L2]
  refine st_f n10 (st_t (by rw [h5]; exact i32_0) (st_bind e1 (st_bnd (st_bind hof (st_bnd (st_bnd (st_f c40 (st_bind m1 (st_bnd (st_t i32_0 (st_bind m2 (st_t i32_0 (st_f (n1m (by omega)) (st_bind (z := (0, s2)) ?_ (st_bind a1 rfl)))))))))))))))
  show m_qOpens (60 + wcA tk T n (rn qB T n p) - 9) (s1 2 0) s1 = _
  rw [g2, show 60 + wcA tk T n (rn qB T n p) - 9 = 51 + wcA tk T n (rn qB T n p) by omega]
  exact f1
theorem E_of6 (h : mQ T n tk s p C W b o) (hlC : C.length < 1690) (htk : tk = 0 ∨ tk = 1) (hw : 9 ≤ wcA tk T n (rn qB T n p) ∧ wcA tk T n (rn qB T n p) < 11) (ho : o = 6) : ∃ s', mEf k was (fi + 2) (fo + 1) s = k was s' ∧ mBq 4 (rn qB T n p) s s' := by
  have h5 := h.b5
  obtain ⟨s1, e1, e2, e3⟩ := h.sk'
  have hq := sk_sk T n p
  have hof := of_ev e3.1 hq e3.2.2.2.1 htk
  rw [if_pos hw] at hof
  obtain ⟨m1, m2⟩ := min_ev (tk := tk) e3.1 hq
  have h40 := wcA_L (tk := tk) (T := T) (n := n) (q := rn qB T n p) (by omega)
  have hb := bA_b h.1.1 (rn qB T n p)
  have c40 : ¬ i32 (bA T n (rn qB T n p)) = i32 40 := ne32 (by omega) (by omega) h40
  rw [decide_eq_false (by omega), b2i_f] at m1 m2
  obtain ⟨s2, f1, f2⟩ := qOpens_t e3 ho (x := 60 + wcA tk T n (rn qB T n p) - 9) (pl := rn qB T n p)
  have g2 : s1 2 0 = rn qB T n p := e3.1.2.2.2.1
  refine ⟨s2, ?_, f2.q (e2.mono (by decide)) (e3.c97 hlC)⟩
  rw [← E_bad (k := k) (was := was) (fi := fi) (fo := fo) f2.2.1 (by omega)]
  unfold mEf
  suffices e : m_qPartTold_L2 KPt (fi + 1 + 1) 1 s = m_qPartTold_L2 KPt (fi + 1) 1 s2 by rw [e]
  conv => lhs; rw [m_qPartTold_L2]
  refine st_f n10 (st_t (by rw [h5]; exact i32_0) (st_bind e1 (st_bnd (st_bind hof (st_bnd (st_bnd (st_f c40 (st_bind m1 (st_bnd (st_t i32_0 (st_bind m2 (st_t i32_0 (st_f (n1m (by omega)) (st_bind (z := (0, s2)) ?_ (st_bind (qAsksWord_bad f2.2.1 (by omega)) rfl)))))))))))))))
  show m_qOpens (60 + wcA tk T n (rn qB T n p) - 9) (s1 2 0) s1 = _
  rw [g2]
  exact f1
/-- a part by itself: a word, a number -/
theorem E_last (h : mQ T n tk s p C W b o) (htk : tk = 0 ∨ tk = 1) (hc : bA T n (rn qB T n p) ≠ 40) (hw : wcA tk T n (rn qB T n p) < 9) : ∃ s1, only [2] s s1 ∧ mQ T n tk s1 (rn qB T n p) C W b o ∧ mEf k was (fi + 2) fo s = Option.bind (KPt s1) (mEr k fo was) := by
  have h5 := h.b5
  obtain ⟨s1, e1, e2, e3⟩ := h.sk'
  have hq := sk_sk T n p
  have hof := of_ev e3.1 hq e3.2.2.2.1 htk
  rw [if_neg (by omega)] at hof
  obtain ⟨m1, m2⟩ := min_ev (tk := tk) e3.1 hq
  have hb := bA_b h.1.1 (rn qB T n p)
  have c40 : ¬ i32 (bA T n (rn qB T n p)) = i32 40 := ne32 (by omega) (by omega) hc
  rw [decide_eq_false (by omega), b2i_f] at m1 m2
  refine ⟨s1, e2, e3, ?_⟩
  unfold mEf
  suffices e : m_qPartTold_L2 KPt (fi + 1 + 1) 1 s = KPt s1 by rw [e]
  rw [m_qPartTold_L2]
  refine st_f n10 (st_t (by rw [h5]; exact i32_0) (st_bind e1 (st_bnd (st_bind hof (st_bnd (st_bnd (st_f c40 (st_bind m1 (st_bnd (st_t i32_0 (st_bind m2 (st_t i32_0 (st_t rfl (st_bnd ?_))))))))))))))
  show m_qPartTold_L2 KPt (fi + 1) 0 s1 = KPt s1
  rw [m_qPartTold_L2]
  exact if_pos i32_0
theorem E_part (h : mQ T n tk s p C (W ++ rs.reverse) b o) (htk : tk = 0 ∨ tk = 1) (hl : C.length + W.length + rs.length < 1680) (hw : 0 ≤ wcA tk T n (rn qB T n p) ∧ wcA tk T n (rn qB T n p) < 9) (hs : (W.length : Int) = b ∨ ∃ V t, W = V ++ [t] ∧ t < 60) (hy : ∀ y ∈ rs, 60 ≤ y) (hlo : (rs.length : Int) ≤ o) (hb : b ≤ W.length) : ∃ s', mEf k was (fi + 2) fo s = mAf k was FU fo s' ∧ only pks s s' ∧ mQ T n tk s' (rn qL T n (rn qB T n p)) (C ++ [40 + wcA tk T n (rn qB T n p)] ++ rs) W b (o - rs.length) := by
  have h40 := wcA_L (tk := tk) (T := T) (n := n) (q := rn qB T n p) (by omega)
  obtain ⟨s1, e2, e3, e4⟩ := E_last (k := k) (was := was) (fi := fi) (fo := fo) h htk h40 hw.2
  have hq := sk_sk T n p
  have hpt := part_ev e3.1 hq e3.2.2.2.1 htk
  rw [if_pos hw] at hpt
  obtain ⟨hw1, -⟩ := wcA_wo (tk := tk) (T := T) (n := n) (q := rn qB T n p) (by omega) (by omega)
  obtain ⟨s2, a1, a2, a3⟩ := qAsksWord_ev e3.1 (k := wcA tk T n (rn qB T n p)) (by omega) (by rw [hq]; exact hw1)
  rw [hq] at a3
  obtain ⟨s3, c1, c2, c3⟩ := qCode_ev (e3.at' a2 a3) (by omega) (40 + wcA tk T n (rn qB T n p))
  obtain ⟨s4, d1, d2, d3⟩ := qEnds_ev hs hy hlo (by rw [List.length_append, List.length_singleton]; omega) c3 hb
  refine ⟨s4, ?_, (e2.mono (by decide)).tr ((a2.mono (by decide)).tr (c2.tr d2)), d3⟩
  rw [e4]
  refine st_bind (z := (0, s4)) ?_ (mEr_ok d3.b5)
  unfold KPt
  exact st_t (by rw [e3.b5]; exact i32_0) (st_bind hpt (st_bnd (st_bnd (st_f (n1m (by omega)) (st_bind a1 (st_bnd (st_f (n1m (by omega)) (st_bind c1 (st_bind d1 rfl)))))))))
theorem E_num (h : mQ T n tk s p C (W ++ rs.reverse) b o) (htk : tk = 0 ∨ tk = 1) (hl : C.length + W.length + rs.length < 1680) (hc : bA T n (rn qB T n p) ≠ 40) (hw : wcA tk T n (rn qB T n p) = -1) (hv : (tkN T n p 0 9999).1 = 0) (hs : (W.length : Int) = b ∨ ∃ V t, W = V ++ [t] ∧ t < 60) (hy : ∀ y ∈ rs, 60 ≤ y) (hlo : (rs.length : Int) ≤ o) (hb : b ≤ W.length) : ∃ s', mEf k was (fi + 2) fo s = mAf k was FU fo s' ∧ only pks s s' ∧ mQ T n tk s' (tkN T n p 0 9999).2.2 (C ++ [1000 + (tkN T n p 0 9999).2.1] ++ rs) W b (o - rs.length) := by
  obtain ⟨s1, e2, e3, e4⟩ := E_last (k := k) (was := was) (fi := fi) (fo := fo) h htk hc (by omega)
  have hq := sk_sk T n p
  have hpt := part_ev e3.1 hq e3.2.2.2.1 htk
  rw [if_neg (by omega)] at hpt
  have htk2 : tkN T n (rn qB T n p) 0 9999 = tkN T n p 0 9999 := by unfold tkN; rw [hq]
  obtain ⟨s2, a1, a2, a3⟩ := (m_number_ev e3.1 (lo := 0) (hi := 9999) (by omega) (by omega)).1 (by rw [htk2]; exact hv)
  rw [htk2] at a1 a3
  obtain ⟨s3, c1, c2, c3⟩ := qCode_ev (e3.at' a2 a3) (by omega) (1000 + (tkN T n p 0 9999).2.1)
  obtain ⟨s4, d1, d2, d3⟩ := qEnds_ev hs hy hlo (by rw [List.length_append, List.length_singleton]; omega) c3 hb
  refine ⟨s4, ?_, (e2.mono (by decide)).tr ((a2.mono (by decide)).tr (c2.tr d2)), d3⟩
  rw [e4]
  refine st_bind (z := (0, s4)) ?_ (mEr_ok d3.b5)
  unfold KPt
  exact st_t (by rw [e3.b5]; exact i32_0) (st_bind hpt (st_bnd (st_bnd (st_t rfl (st_bnd (st_t rfl (st_bind a1 (st_bind c1 (st_bind d1 rfl)))))))))
theorem E_numB (h : mQ T n tk s p C W b o) (htk : tk = 0 ∨ tk = 1) (hl : C.length + W.length < 1680) (hc : bA T n (rn qB T n p) ≠ 40) (hw : wcA tk T n (rn qB T n p) = -1) (hv : (tkN T n p 0 9999).1 ≠ 0) : ∃ s', mEf k was (fi + 2) (fo + 1) s = k was s' ∧ mBq (tkN T n p 0 9999).1 (tkN T n p 0 9999).2.1 s s' := by
  obtain ⟨s1, e2, e3, e4⟩ := E_last (k := k) (was := was) (fi := fi) (fo := fo + 1) h htk hc (by omega)
  have hq := sk_sk T n p
  have hpt := part_ev e3.1 hq e3.2.2.2.1 htk
  rw [if_neg (by omega)] at hpt
  have htk2 : tkN T n (rn qB T n p) 0 9999 = tkN T n p 0 9999 := by unfold tkN; rw [hq]
  obtain ⟨v, s2, a1, a2, a3⟩ := (m_number_ev e3.1 (lo := 0) (hi := 9999) (by omega) (by omega)).2 (by rw [htk2]; exact hv)
  rw [htk2] at a3
  have hk : 1 ≤ (tkN T n p 0 9999).1 ∧ (tkN T n p 0 9999).1 ≤ 5 := by
    revert hv
    unfold tkN
    split
    · split
      · split
        · intro h; exact absurd rfl h
        · intro _; dsimp only; omega
      · intro _; dsimp only; omega
    · intro _; dsimp only; omega
  have c97 : s2 97 0 = C.length := by rw [a3.1 97 (by decide)]; exact e3.2.1.1.1
  obtain ⟨s3, es3⟩ : ∃ s3, up (up s2 96 C.length (1000 + v)) 97 0 (C.length + 1) = s3 := ⟨_, rfl⟩
  have c1 : m_qCode (1000 + v) s2 = some (0, s3) := by
    have e : up s2 96 C.length (1000 + v) 97 0 = C.length := by rw [up_k _ _ _ _ (by decide)]; exact c97
    unfold m_qCode
    simp (disch := omega) only [gd_t, gd_T, gd_ok, not_false_eq_true, eq_self, bnd_r, bind_s, ite_t, ite_n, ite_T, ite_F, i32_id, c97, e, es3]
  have b5 : s3 5 0 = (tkN T n p 0 9999).1 := by rw [← es3, up_k _ _ _ _ (by decide), up_k _ _ _ _ (by decide)]; exact a3.2.1
  have d1 : m_qEndsPart s3 = some (0, s3) := by
    unfold m_qEndsPart
    obtain ⟨f, hf⟩ := FU_s
    rw [hf, m_qEndsPart_L0]
    simp (disch := omega) only [gd_t, gd_T, gd_ok, not_false_eq_true, eq_self, bnd_r, bind_s, ite_t, ite_n, ite_T, ite_F, i32_id, b5]
  refine ⟨s3, ?_, ?_⟩
  · rw [e4]
    refine st_bind (z := (0, s3)) ?_ (mEr_bad b5 hk)
    unfold KPt
    exact st_t (by rw [e3.b5]; exact i32_0) (st_bind hpt (st_bnd (st_bnd (st_t rfl (st_bnd (st_t rfl (st_bind a1 (st_bind c1 (st_bind d1 rfl)))))))))
  · obtain ⟨q1, q2, q3, q4⟩ := a3.q (e2.mono (by decide)) (e3.c97 (by omega))
    refine ⟨q1.tr ?_, b5, ?_, by rw [← es3, up_s]; omega⟩
    · rw [← es3]; exact (only.up (by decide)).tr (only.up (by decide))
    · rw [← es3, up_k _ _ _ _ (by decide), up_k _ _ _ _ (by decide)]; exact q3
end
