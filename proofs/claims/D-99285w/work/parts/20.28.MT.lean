set_option maxRecDepth 100000
/-! LAYER 2: the reference reads tests, step by step -/
noncomputable def KTe : MS → Option (Int × MS) := fun (s18 : MS) =>
      Option.bind (m_takes 80 s18) fun z19 =>
      if i32 z19.1 = 0 then
        Option.bind (m_takes 81 z19.2) fun z21 =>
        if i32 z21.1 = 0 then
          if i32 (z21.2 5 0) = 0 then
            Option.bind (m_qHasSquare z21.2) fun z24 =>
            if i32 z24.1 = 0 then
              some (0, z24.2)
            else
              Option.bind (m_fail 1 (z24.2 2 0) z24.2) fun z26 =>
              some (0, z26.2)
          else
            some (0, z21.2)
        else
          m_qGoesOnTest_L137
            (fun (s36 : MS) =>
              gd (ok 1700 (s36 99 0)) <|
              bnd (up s36 98 (i32 (s36 99 0)) 11) fun s38 =>
              bnd (up s38 99 0 ((s38 99 0) + 1)) fun s39 =>
              some (1, s39))
            FU z21.2
      else
        m_qGoesOnTest_L87
          (fun (s45 : MS) =>
            gd (ok 1700 (s45 99 0)) <|
            bnd (up s45 98 (i32 (s45 99 0)) 10) fun s47 =>
            bnd (up s47 99 0 ((s47 99 0) + 1)) fun s48 =>
            some (1, s48))
          FU z19.2
noncomputable def kFa : Int × MS → Option (Int × MS) := fun z3 =>
    if i32 (z3.2 5 0) = 0 then
      Option.bind (m_look z3.2) fun z5 =>
      bnd z5.1 fun x1_6 =>
      bnd (fun (x1_7 : Int) (s8 : MS) =>
          bnd (up s8 2 0 ((s8 2 0) + 1)) fun s9 =>
          Option.bind (m_qSums s9) fun z10 =>
          bnd (fun (w11 : Int) (s12 : MS) =>
              Option.bind (m_qCode w11 s12) fun z13 =>
              some (0, z13.2)) fun j14 =>
          if i32 x1_7 = i32 60 then
            j14 7 z10.2
          else
            if i32 x1_7 = i32 62 then
              j14 8 z10.2
            else
              j14 9 z10.2) fun j17 =>
      if i32 x1_6 = i32 60 then
        j17 x1_6 z5.2
      else
        if i32 x1_6 = i32 62 then
          j17 x1_6 z5.2
        else
          if i32 x1_6 = i32 61 then
            j17 x1_6 z5.2
          else
            Option.bind (m_fail 1 (z5.2 2 0) z5.2) fun z21 =>
            some (0, z21.2)
    else
      some (0, z3.2)
noncomputable def mTf (k : MS → Option (Int × MS)) (fo : Nat) (s : MS) : Option (Int × MS) := m_qTest_L2 k fo 1 s
noncomputable def mUf (k : MS → Option (Int × MS)) (fl fo : Nat) (s : MS) : Option (Int × MS) := Option.bind (m_qGoesOnTest_L0 KTe fl s) (fun z20 => if i32 z20.1 = 0 then m_qTest_L2 k fo 0 z20.2 else m_qTest_L2 k fo 1 z20.2)
theorem m_qGoesOnTest_eq (s : MS) : m_qGoesOnTest s = m_qGoesOnTest_L0 KTe FU s := rfl
def s12 (W : List Int) : Prop := W = [] ∨ ∃ V t, W = V ++ [t] ∧ t ≠ 12
def s10 (W : List Int) : Prop := W = [] ∨ ∃ V t, W = V ++ [t] ∧ t ≠ 10
def s11 (W : List Int) : Prop := W = [] ∨ ∃ V t, W = V ++ [t] ∧ t ≠ 10 ∧ t ≠ 11
section
variable {T : Int → Int} {n p tk b o : Int} {s s' : MS} {C W rs ops : List Int} {k : MS → Option (Int × MS)} {fo fl : Nat}
theorem L2_0 : m_qTest_L2 k (fo + 1) 0 s = k s := by rw [m_qTest_L2]; exact if_pos i32_0
theorem T_bad {kd : Int} (h5 : s 5 0 = kd) (hk : 1 ≤ kd ∧ kd ≤ 5) : mTf k (fo + 1) s = k s := by
  unfold mTf
  rw [m_qTest_L2]
  exact st_f n10 (st_f (by rw [h5, i32_id (by omega) (by omega)]; omega) rfl)
theorem takes_no (h : mG T n s p) (hp : rn qB T n p = p) {a : Nat} (ha : a ∈ wfs) (hw : hereW T n p (wo a) = false) : m_takes a s = some (0, s) := by
  have e := m_isHere_id h hp ha
  rw [hw, b2i_f] at e
  unfold m_takes
  exact st_bind e (st_t i32_0 rfl)
theorem qNots_go (hs : s12 W) : ∀ (rs : List Int) (fuel : Nat) (C : List Int) (o : Int) (s : MS) (k : MS → Option (Int × MS)), rs.length < fuel → (∀ y ∈ rs, y = 12) → (rs.length : Int) ≤ o → C.length + W.length + rs.length < 1690 → mQ T n tk s p C (W ++ rs.reverse) b o → b ≤ W.length → ∃ s', m_qDropsNots_L0 k fuel s = k s' ∧ only pks s s' ∧ mQ T n tk s' p (C ++ rs) W b (o - rs.length) := by
  intro rs
  induction rs with
  | nil =>
    intro fuel C o s k hf hy hlo hl h hb
    obtain ⟨f, rfl⟩ : ∃ f, fuel = f + 1 := ⟨fuel - 1, by simp at hf; omega⟩
    have h5 := h.b5
    simp only [List.reverse_nil, List.append_nil, List.length_nil] at h hl
    refine ⟨s, ?_, only.rf, by simpa using h⟩
    rw [m_qDropsNots_L0]
    rcases hs with hs | ⟨V, t, hV, ht⟩
    · rw [hs] at h
      exact st_t (z32 h5) (st_bind (qIsOn_nil h) (st_t i32_0 rfl))
    · rw [hV] at h
      rw [hV, List.length_append, List.length_singleton] at hl
      have q := qIsOn_at h (by omega) (x := 12) (by omega)
      rw [decide_eq_false ht, b2i_f] at q
      exact st_t (z32 h5) (st_bind q (st_t i32_0 rfl))
  | cons x rs ih =>
    intro fuel C o s k hf hy hlo hl h hb
    obtain ⟨f, rfl⟩ : ∃ f, fuel = f + 1 := ⟨fuel - 1, by simp at hf; omega⟩
    have h5 := h.b5
    rw [List.reverse_cons, ← List.append_assoc] at h
    rw [List.length_cons] at hlo hl hf
    have hx := hy x List.mem_cons_self
    have hlen : (W ++ rs.reverse).length = W.length + rs.length := by simp
    have q := qIsOn_at h (by rw [hlen]; omega) (x := 12) (by omega)
    rw [decide_eq_true hx, b2i_t] at q
    obtain ⟨g, ⟨⟨a1, a2⟩, a3, a4⟩, ⟨a5, a6⟩, a7, a8, a9, a10⟩ := id h
    have ho : only [100] s (up s 100 0 (s 100 0 - 1)) := only.up (by decide)
    have hQ : mQ T n tk (up s 100 0 (s 100 0 - 1)) p C (W ++ rs.reverse ++ [x]) b (o - 1) := ⟨g.of' ho (by decide), ⟨⟨by rw [ho 97 (by decide)]; exact a1, a2.of (ho 96 (by decide))⟩, by rw [ho 99 (by decide)]; exact a3, a4.of (ho 98 (by decide))⟩, ⟨by rw [up_s, a5], by rw [ho 101 (by decide)]; exact a6⟩, by rw [ho 47 (by decide)]; exact a7, by omega, a9, a10⟩
    obtain ⟨s1, d1, d2, d3⟩ := qDrops_ev hQ (by rw [hlen]; omega) (by rw [hlen]; omega)
    obtain ⟨s', f1, f2, f3⟩ := ih f (C ++ [x]) (o - 1) s1 k (by omega) (fun y hy' => hy y (List.mem_cons_of_mem _ hy')) (by omega) (by rw [List.length_append, List.length_singleton]; omega) d3 hb
    refine ⟨s', ?_, ((ho.mono (by decide)).tr d2).tr f2, ?_⟩
    · rw [m_qDropsNots_L0]
      exact st_t (z32 h5) (st_bind q (st_f n10 (st_bnd (st_bind d1 f1))))
    · rw [List.append_assoc, List.singleton_append] at f3
      rw [List.length_cons, show o - ((rs.length + 1 : Nat) : Int) = o - 1 - rs.length by omega]
      exact f3
theorem qNots_ev (hs : s12 W) (hy : ∀ y ∈ rs, y = 12) (hlo : (rs.length : Int) ≤ o) (hl : C.length + W.length + rs.length < 1690) (h : mQ T n tk s p C (W ++ rs.reverse) b o) (hb : b ≤ W.length) : ∃ s', m_qDropsNots s = some (0, s') ∧ only pks s s' ∧ mQ T n tk s' p (C ++ rs) W b (o - rs.length) := by
  unfold m_qDropsNots
  exact qNots_go hs rs FU C o s _ (by have := FU_ge; omega) hy hlo hl h hb
theorem qNots_bad {kd : Int} (h5 : s 5 0 = kd) (hk : 1 ≤ kd ∧ kd ≤ 5) : m_qDropsNots s = some (0, s) := by
  unfold m_qDropsNots
  obtain ⟨f, hf⟩ := FU_s
  rw [hf, m_qDropsNots_L0]
  exact st_f (by rw [h5, i32_id (by omega) (by omega)]; omega) rfl
theorem T_sq (h : mQ T n tk s p C W b o) (hl : C.length + W.length < 1680) (hc : bA T n (rn qB T n p) = 91) (ho : o < 6) : ∃ s', mTf k (fo + 1) s = mTf k fo s' ∧ only pks s s' ∧ mQ T n tk s' (rn qB T n p + 1) C (W ++ [25]) b (o + 1) := by
  have h5 := h.b5
  obtain ⟨s1, e1, e2, e3⟩ := h.sk'
  have hin := bA_at (T := T) (n := n) (p := rn qB T n p) (by omega)
  obtain ⟨s2, f1, f2, f3⟩ := qOpens_f e3 (by omega) ho (x := 25) (pl := rn qB T n p) (by omega)
  have g2 : s1 2 0 = rn qB T n p := e3.1.2.2.2.1
  have g2' : s2 2 0 = rn qB T n p := f3.1.2.2.2.1
  refine ⟨up s2 2 0 (rn qB T n p + 1), ?_, (e2.mono (by decide)).tr ((f2.mono (by decide)).tr (only.up (by decide))), f3.at2 (only.up (by decide)) (f3.1.sign (by rw [hc]; decide) hin.2 (only.up (by decide)) (by rw [up_s]))⟩
  unfold mTf
  rw [m_qTest_L2]
  refine st_f n10 (st_t (z32 h5) (st_bind e1 (st_bnd (st_t (by rw [hc]) (st_bind (z := (0, s2)) ?_ (st_bnd ?_))))))
  · show m_qOpens 25 (s1 2 0) s1 = _
    rw [g2]; exact f1
  · show m_qTest_L2 k fo 1 (up s2 2 0 (s2 2 0 + 1)) = _
    rw [g2']
theorem T_sq6 (h : mQ T n tk s p C W b o) (hlC : C.length < 1690) (hc : bA T n (rn qB T n p) = 91) (ho : o = 6) : ∃ s', mTf k (fo + 2) s = k s' ∧ mBq 4 (rn qB T n p) s s' := by
  have h5 := h.b5
  obtain ⟨s1, e1, e2, e3⟩ := h.sk'
  obtain ⟨s2, f1, f2⟩ := qOpens_t e3 ho (x := 25) (pl := rn qB T n p)
  have g2 : s1 2 0 = rn qB T n p := e3.1.2.2.2.1
  have b5 : up s2 2 0 (s2 2 0 + 1) 5 0 = 4 := by rw [up_k _ _ _ _ (by decide)]; exact f2.2.1
  refine ⟨up s2 2 0 (s2 2 0 + 1), ?_, ?_⟩
  · rw [← T_bad (k := k) (fo := fo) b5 (by omega)]
    unfold mTf
    conv => lhs; rw [m_qTest_L2]
    refine st_f n10 (st_t (z32 h5) (st_bind e1 (st_bnd (st_t (by rw [hc]) (st_bind (z := (0, s2)) ?_ (st_bnd rfl))))))
    show m_qOpens 25 (s1 2 0) s1 = _
    rw [g2]; exact f1
  · obtain ⟨q1, q2, q3, q4⟩ := f2.q (e2.mono (by decide)) (e3.c97 hlC)
    exact ⟨q1.tr (only.up (by decide)), b5, by rw [up_k _ _ _ _ (by decide)]; exact q3, by rw [up_row (by decide)]; exact q4⟩
theorem here_L {q : Int} {w : List Int} (h : hereW T n q w = true) {c : Int} (hc : ¬ (97 ≤ c ∧ c ≤ 122)) : bA T n q ≠ c := by
  have := (hereW_at h).1
  rw [qL_t] at this
  omega
theorem T_not (h : mQ T n tk s p C W b o) (hl : C.length + W.length < 1680) (hc : hereW T n (rn qB T n p) (wo 79) = true) (ho : o < 6) : ∃ s', mTf k (fo + 1) s = mTf k fo s' ∧ only pks s s' ∧ mQ T n tk s' (rn qL T n (rn qB T n p)) C (W ++ [12]) b (o + 1) := by
  have h5 := h.b5
  obtain ⟨s1, e1, e2, e3⟩ := h.sk'
  have hq := sk_sk T n p
  have hb := bA_b h.1.1 (rn qB T n p)
  have hh := m_isHere_id e3.1 hq (a := 79) (by decide)
  rw [hc, b2i_t] at hh
  have c91 : ¬ i32 (bA T n (rn qB T n p)) = i32 91 := ne32 (by omega) (by omega) (here_L hc (by decide))
  obtain ⟨s2, f1, f2, f3⟩ := qOpens_f e3 (by omega) ho (x := 12) (pl := rn qB T n p) (by omega)
  have g2 : s1 2 0 = rn qB T n p := e3.1.2.2.2.1
  obtain ⟨s3, a1, a2, a3⟩ := m_asks_t f3.1 (a := 79) (by decide) (by rw [hq]; exact hc)
  rw [hq] at a3
  refine ⟨s3, ?_, (e2.mono (by decide)).tr ((f2.mono (by decide)).tr (a2.mono (by decide))), f3.at' a2 a3⟩
  unfold mTf
  rw [m_qTest_L2]
  refine st_f n10 (st_t (z32 h5) (st_bind e1 (st_bnd (st_f c91 (st_bind hh (st_f n10 (st_bind (z := (0, s2)) ?_ (st_bind a1 rfl))))))))
  show m_qOpens 12 (s1 2 0) s1 = _
  rw [g2]; exact f1
theorem T_not6 (h : mQ T n tk s p C W b o) (hlC : C.length < 1690) (hc : hereW T n (rn qB T n p) (wo 79) = true) (ho : o = 6) : ∃ s', mTf k (fo + 2) s = k s' ∧ mBq 4 (rn qB T n p) s s' := by
  have h5 := h.b5
  obtain ⟨s1, e1, e2, e3⟩ := h.sk'
  have hq := sk_sk T n p
  have hb := bA_b h.1.1 (rn qB T n p)
  have hh := m_isHere_id e3.1 hq (a := 79) (by decide)
  rw [hc, b2i_t] at hh
  have c91 : ¬ i32 (bA T n (rn qB T n p)) = i32 91 := ne32 (by omega) (by omega) (here_L hc (by decide))
  obtain ⟨s2, f1, f2⟩ := qOpens_t e3 ho (x := 12) (pl := rn qB T n p)
  have g2 : s1 2 0 = rn qB T n p := e3.1.2.2.2.1
  refine ⟨s2, ?_, f2.q (e2.mono (by decide)) (e3.c97 hlC)⟩
  rw [← T_bad (k := k) (fo := fo) f2.2.1 (by omega)]
  unfold mTf
  conv => lhs; rw [m_qTest_L2]
  refine st_f n10 (st_t (z32 h5) (st_bind e1 (st_bnd (st_f c91 (st_bind hh (st_f n10 (st_bind (z := (0, s2)) ?_ (st_bind (asks_bad f2.2.1 (by omega)) rfl))))))))
  show m_qOpens 12 (s1 2 0) s1 = _
  rw [g2]; exact f1
/-- a fact by itself -/
theorem T_fact (h : mQ T n tk s p C W b o) (hc : bA T n (rn qB T n p) ≠ 91) (hw : hereW T n (rn qB T n p) (wo 79) = false) : ∃ s1, only [2] s s1 ∧ mQ T n tk s1 (rn qB T n p) C W b o ∧
    (∀ (fo : Nat) s2 s3, m_qFact s1 = some (0, s2) → m_qDropsNots s2 = some (0, s3) → s3 5 0 = 0 → mTf k (fo + 1) s = mUf k FU fo s3) ∧
    (∀ (fo : Nat) s2 kd, m_qFact s1 = some (0, s2) → s2 5 0 = kd → (1 ≤ kd ∧ kd ≤ 5) → mTf k (fo + 2) s = k s2) := by
  have h5 := h.b5
  obtain ⟨s1, e1, e2, e3⟩ := h.sk'
  have hq := sk_sk T n p
  have hb := bA_b h.1.1 (rn qB T n p)
  have hh := m_isHere_id e3.1 hq (a := 79) (by decide)
  rw [hw, b2i_f] at hh
  have c91 : ¬ i32 (bA T n (rn qB T n p)) = i32 91 := ne32 (by omega) (by omega) hc
  refine ⟨s1, e2, e3, fun fo s2 s3 f1 f2 f3 => ?_, fun fo s2 kd f1 f2 f3 => ?_⟩
  · unfold mTf
    rw [m_qTest_L2]
    exact st_f n10 (st_t (z32 h5) (st_bind e1 (st_bnd (st_f c91 (st_bind hh (st_t i32_0 (st_bind f1 (st_bind f2 (st_bnd (st_bnd (st_t (z32 f3) rfl)))))))))))
  · unfold mTf
    rw [m_qTest_L2]
    have nb : ¬ i32 (s2 5 0) = 0 := by rw [f2, i32_id (by omega) (by omega)]; omega
    exact st_f n10 (st_t (z32 h5) (st_bind e1 (st_bnd (st_f c91 (st_bind hh (st_t i32_0 (st_bind f1 (st_bind (qNots_bad f2 f3) (st_bnd (st_bnd (st_f nb L2_0)))))))))))
theorem qFact_all (h : mQ T n tk s p C W b o) (hl : C.length < 1690) (hw : hereW T n (rn qB T n p) (wo 82) = true) : ∃ s', m_qFact s = some (0, s') ∧ only pks s s' ∧ mQ T n tk s' (rn qL T n (rn qB T n p)) (C ++ [13]) W b o := by
  obtain ⟨s1, a1, a2, a3⟩ := m_takes_t h.1 (a := 82) (by decide) hw
  obtain ⟨s2, b1, b2, b3⟩ := qCode_ev (h.at' a2 a3) (by omega) 13
  refine ⟨s2, ?_, (a2.mono (by decide)).tr b2, b3⟩
  unfold m_qFact
  exact st_bind a1 (st_f n10 (st_bind b1 rfl))
theorem qFact_sum (h : mQ T n tk s p C W b o) (hw : hereW T n (rn qB T n p) (wo 82) = false) : ∃ s', only [2] s s' ∧ mQ T n tk s' (rn qB T n p) C W b o ∧ m_qFact s = Option.bind (m_qSums s') kFa := by
  obtain ⟨s1, a1, a2, a3⟩ := m_takes_f h.1 (a := 82) (by decide) hw
  refine ⟨s1, a2, h.at2 a2 a3, ?_⟩
  unfold m_qFact
  exact st_bind a1 (st_t i32_0 rfl)
/-- whether a square bracket waits -/
theorem qHasSq_go (h : mQ T n tk s p C W b o) (hl : W.length < 1690) (k1 k2 : MS → Option (Int × MS)) : ∀ (d fuel i : Nat), i + d = W.length → d < fuel → m_qHasSquare_L2 k1 k2 fuel i s = if 25 ∈ W.drop i then k2 s else k1 s := by
  obtain ⟨g, ⟨⟨a1, a2⟩, a3, a4⟩, ⟨a5, a6⟩, a7, a8, a9, a10⟩ := h
  intro d
  induction d with
  | zero =>
    intro fuel i hd hf
    obtain ⟨f, rfl⟩ : ∃ f, fuel = f + 1 := ⟨fuel - 1, by omega⟩
    rw [List.drop_eq_nil_of_le (by omega), if_neg (by simp), m_qHasSquare_L2]
    exact st_t (by rw [a3, i32_id (by omega) (by omega), i32_id (by omega) (by omega)]; omega) rfl
  | succ d ih =>
    intro fuel i hd hf
    obtain ⟨f, rfl⟩ : ∃ f, fuel = f + 1 := ⟨fuel - 1, by omega⟩
    have e1 : W[i]? = some (W[i]'(by omega)) := List.getElem?_eq_getElem (by omega)
    have e2 := a4 _ _ e1
    have hy := a10 _ (List.mem_of_getElem? e1)
    rw [List.drop_eq_getElem_cons (show i < W.length by omega)]
    have ih' := ih f (i + 1) (by omega) (by omega)
    generalize W[i]'(by omega) = y at *
    have hok : ok 1700 (i : Int) := by unfold ok; rw [i32_id (by omega) (by omega)]; omega
    have hlt : ¬ i32 (s 99 0) ≤ i32 (i : Int) := by rw [a3, i32_id (by omega) (by omega), i32_id (by omega) (by omega)]; omega
    have ev' : s 98 (i32 (i : Int)) = y := by rw [i32_id (by omega) (by omega)]; exact e2
    rw [m_qHasSquare_L2]
    by_cases c : y = 25
    · refine st_f hlt (st_gd hok (st_t (by rw [ev', c]) ?_))
      rw [if_pos (by rw [c]; exact List.mem_cons_self)]
    · have hne : ¬ i32 (s 98 (i32 (i : Int))) = i32 25 := by rw [ev']; exact ne32 (by omega) (by omega) c
      have hiff : (25 ∈ y :: W.drop (i + 1)) ↔ 25 ∈ W.drop (i + 1) := by
        rw [List.mem_cons]
        constructor
        · rintro (h | h)
          · exact absurd h.symm c
          · exact h
        · exact Or.inr
      refine st_f hlt (st_gd hok (st_f hne (st_bnd ?_)))
      rw [show ((i : Int) + 1) = ((i + 1 : Nat) : Int) by omega, ih']
      by_cases q : 25 ∈ W.drop (i + 1)
      · rw [if_pos q, if_pos (hiff.mpr q)]
      · rw [if_neg q, if_neg (fun h => q (hiff.mp h))]
theorem qHasSq_ev (h : mQ T n tk s p C W b o) (hl : W.length < 1690) : m_qHasSquare s = some (b2i (decide (25 ∈ W)), s) := by
  unfold m_qHasSquare
  rw [bnd_r]
  have := qHasSq_go h hl (fun (s10 : MS) => some (0, s10)) (fun (s11 : MS) => some (1, s11)) W.length FU 0 (by omega) (by have := FU_ge; omega)
  rw [List.drop_zero, show ((0 : Nat) : Int) = 0 from rfl] at this
  rw [this]
  by_cases q : 25 ∈ W
  · rw [if_pos q, decide_eq_true q, b2i_t]
  · rw [if_neg q, decide_eq_false q, b2i_f]
theorem go33 (k : MS → Option (Int × MS)) : ∀ (ops : List Int) (fuel : Nat) (C : List Int) (s : MS), ops.length < fuel → (∀ y ∈ ops, y ≠ 25) → C.length + W.length + ops.length < 1680 → mQ T n tk s p C (W ++ [25] ++ ops.reverse) b o → b ≤ W.length → ∃ s', m_qGoesOnTest_L33 k fuel s = k s' ∧ only pks s s' ∧ mQ T n tk s' p (C ++ ops) (W ++ [25]) b o := by
  intro ops
  induction ops with
  | nil =>
    intro fuel C s hf hy hl h hb
    obtain ⟨f, rfl⟩ : ∃ f, fuel = f + 1 := ⟨fuel - 1, by simp at hf; omega⟩
    simp only [List.reverse_nil, List.append_nil, List.length_nil] at h hl
    refine ⟨s, ?_, only.rf, by simpa using h⟩
    have q := qIsOn_at h (by omega) (x := 25) (by omega)
    rw [decide_eq_true rfl, b2i_t] at q
    rw [m_qGoesOnTest_L33]
    exact st_bind q (st_f n10 rfl)
  | cons y ops ih =>
    intro fuel C s hf hy hl h hb
    obtain ⟨f, rfl⟩ : ∃ f, fuel = f + 1 := ⟨fuel - 1, by simp at hf; omega⟩
    rw [List.reverse_cons, ← List.append_assoc] at h
    rw [List.length_cons] at hl hf
    have hlen : (W ++ [25] ++ ops.reverse).length = W.length + 1 + ops.length := by simp; omega
    have q := qIsOn_at h (by rw [hlen]; omega) (x := 25) (by omega)
    rw [decide_eq_false (hy y List.mem_cons_self), b2i_f] at q
    obtain ⟨s1, d1, d2, d3⟩ := qDrops_ev h (by rw [hlen]; omega) (by rw [hlen]; omega)
    obtain ⟨s', f1, f2, f3⟩ := ih f (C ++ [y]) s1 (by omega) (fun y hy' => hy y (List.mem_cons_of_mem _ hy')) (by rw [List.length_append, List.length_singleton]; omega) d3 hb
    rw [List.append_assoc, List.singleton_append] at f3
    refine ⟨s', ?_, d2.tr f2, f3⟩
    rw [m_qGoesOnTest_L33]
    exact st_bind q (st_t i32_0 (st_bind d1 f1))
theorem go87 (k : MS → Option (Int × MS)) (hs : s10 W) : ∀ (ops : List Int) (fuel : Nat) (C : List Int) (s : MS), ops.length < fuel → (∀ y ∈ ops, y = 10) → C.length + W.length + ops.length < 1680 → mQ T n tk s p C (W ++ ops.reverse) b o → b ≤ W.length → ∃ s', m_qGoesOnTest_L87 k fuel s = k s' ∧ only pks s s' ∧ mQ T n tk s' p (C ++ ops) W b o := by
  intro ops
  induction ops with
  | nil =>
    intro fuel C s hf hy hl h hb
    obtain ⟨f, rfl⟩ : ∃ f, fuel = f + 1 := ⟨fuel - 1, by simp at hf; omega⟩
    simp only [List.reverse_nil, List.append_nil, List.length_nil] at h hl
    refine ⟨s, ?_, only.rf, by simpa using h⟩
    rw [m_qGoesOnTest_L87]
    rcases hs with hs | ⟨V, t, hV, ht⟩
    · rw [hs] at h
      exact st_bind (qIsOn_nil h) (st_t i32_0 rfl)
    · rw [hV] at h
      rw [hV, List.length_append, List.length_singleton] at hl
      have q := qIsOn_at h (by omega) (x := 10) (by omega)
      rw [decide_eq_false ht, b2i_f] at q
      exact st_bind q (st_t i32_0 rfl)
  | cons y ops ih =>
    intro fuel C s hf hy hl h hb
    obtain ⟨f, rfl⟩ : ∃ f, fuel = f + 1 := ⟨fuel - 1, by simp at hf; omega⟩
    rw [List.reverse_cons, ← List.append_assoc] at h
    rw [List.length_cons] at hl hf
    have hlen : (W ++ ops.reverse).length = W.length + ops.length := by simp
    have q := qIsOn_at h (by rw [hlen]; omega) (x := 10) (by omega)
    rw [decide_eq_true (hy y List.mem_cons_self), b2i_t] at q
    obtain ⟨s1, d1, d2, d3⟩ := qDrops_ev h (by rw [hlen]; omega) (by rw [hlen]; omega)
    obtain ⟨s', f1, f2, f3⟩ := ih f (C ++ [y]) s1 (by omega) (fun y hy' => hy y (List.mem_cons_of_mem _ hy')) (by rw [List.length_append, List.length_singleton]; omega) d3 hb
    rw [List.append_assoc, List.singleton_append] at f3
    refine ⟨s', ?_, d2.tr f2, f3⟩
    rw [m_qGoesOnTest_L87]
    exact st_bind q (st_f n10 (st_bind d1 f1))
theorem go137 (k : MS → Option (Int × MS)) (hs : s11 W) : ∀ (ops : List Int) (fuel : Nat) (C : List Int) (s : MS), ops.length < fuel → (∀ y ∈ ops, y = 10 ∨ y = 11) → C.length + W.length + ops.length < 1680 → mQ T n tk s p C (W ++ ops.reverse) b o → b ≤ W.length → ∃ s', m_qGoesOnTest_L137 k fuel s = k s' ∧ only pks s s' ∧ mQ T n tk s' p (C ++ ops) W b o := by
  intro ops
  induction ops with
  | nil =>
    intro fuel C s hf hy hl h hb
    obtain ⟨f, rfl⟩ : ∃ f, fuel = f + 1 := ⟨fuel - 1, by simp at hf; omega⟩
    simp only [List.reverse_nil, List.append_nil, List.length_nil] at h hl
    refine ⟨s, ?_, only.rf, by simpa using h⟩
    rw [m_qGoesOnTest_L137]
    rcases hs with hs | ⟨V, t, hV, ht1, ht2⟩
    · rw [hs] at h
      exact st_bind (qIsOn_nil h) (st_bnd (st_t i32_0 (st_bind (qIsOn_nil h) (st_t i32_0 rfl))))
    · rw [hV] at h
      rw [hV, List.length_append, List.length_singleton] at hl
      have q := qIsOn_at h (by omega) (x := 10) (by omega)
      have q2 := qIsOn_at h (by omega) (x := 11) (by omega)
      rw [decide_eq_false ht1, b2i_f] at q
      rw [decide_eq_false ht2, b2i_f] at q2
      exact st_bind q (st_bnd (st_t i32_0 (st_bind q2 (st_t i32_0 rfl))))
  | cons y ops ih =>
    intro fuel C s hf hy hl h hb
    obtain ⟨f, rfl⟩ : ∃ f, fuel = f + 1 := ⟨fuel - 1, by simp at hf; omega⟩
    rw [List.reverse_cons, ← List.append_assoc] at h
    rw [List.length_cons] at hl hf
    have hlen : (W ++ ops.reverse).length = W.length + ops.length := by simp
    have q := qIsOn_at h (by rw [hlen]; omega) (x := 10) (by omega)
    have q2 := qIsOn_at h (by rw [hlen]; omega) (x := 11) (by omega)
    obtain ⟨s1, d1, d2, d3⟩ := qDrops_ev h (by rw [hlen]; omega) (by rw [hlen]; omega)
    obtain ⟨s', f1, f2, f3⟩ := ih f (C ++ [y]) s1 (by omega) (fun y hy' => hy y (List.mem_cons_of_mem _ hy')) (by rw [List.length_append, List.length_singleton]; omega) d3 hb
    rw [List.append_assoc, List.singleton_append] at f3
    refine ⟨s', ?_, d2.tr f2, f3⟩
    rw [m_qGoesOnTest_L137]
    rcases hy y List.mem_cons_self with c | c
    · rw [decide_eq_true c, b2i_t] at q
      exact st_bind q (st_bnd (st_f n10 (st_bind d1 f1)))
    · rw [decide_eq_false (by omega), b2i_f] at q
      rw [decide_eq_true c, b2i_t] at q2
      exact st_bind q (st_bnd (st_t i32_0 (st_bind q2 (st_f n10 (st_bind d1 f1)))))
/-- a square bracket closes -/
theorem U_close (h : mQ T n tk s p C (W ++ rs.reverse ++ [25] ++ ops.reverse) b o) (hl : C.length + W.length + rs.length + ops.length < 1670) (hc : bA T n (rn qB T n p) = 93) (hops : ∀ y ∈ ops, y ≠ 25) (hs : s12 W) (hy : ∀ y ∈ rs, y = 12) (hlo : (rs.length : Int) + 1 ≤ o) (hb : b ≤ W.length) : ∃ s', mUf k (fl + 1) fo s = mUf k fl fo s' ∧ only pks s s' ∧ mQ T n tk s' (rn qB T n p + 1) (C ++ ops ++ rs) W b (o - 1 - rs.length) := by
  have h5 := h.b5
  obtain ⟨s1, e1, e2, e3⟩ := h.sk'
  have hin := bA_at (T := T) (n := n) (p := rn qB T n p) (by omega)
  have hlen : (W ++ rs.reverse).length = W.length + rs.length := by simp
  have hlen2 : (W ++ rs.reverse ++ [25] ++ ops.reverse).length = W.length + rs.length + 1 + ops.length := by simp; omega
  have hsq := qHasSq_ev e3 (by rw [hlen2]; omega)
  rw [decide_eq_true (by simp), b2i_t] at hsq
  have g2 : s1 2 0 = rn qB T n p := e3.1.2.2.2.1
  have Q2 : mQ T n tk (up s1 2 0 (s1 2 0 + 1)) (rn qB T n p + 1) C (W ++ rs.reverse ++ [25] ++ ops.reverse) b o := e3.at2 (only.up (by decide)) (e3.1.sign (by rw [hc]; decide) hin.2 (only.up (by decide)) (by rw [up_s, g2]))
  obtain ⟨s3, d1, d2, d3⟩ := go33 (fun (s14 : MS) =>
              bnd (up s14 99 0 ((s14 99 0) - 1)) fun s15 =>
              bnd (up s15 100 0 ((s15 100 0) - 1)) fun s16 =>
              Option.bind (m_qDropsNots s16) fun z17 =>
              m_qGoesOnTest_L0 KTe fl z17.2) ops FU C _ (by have := FU_ge; omega) hops (by rw [hlen]; omega) Q2 (by rw [hlen]; omega)
  obtain ⟨s4, p1, p2, p3, p4, p5⟩ := pop_ev d3 (by rw [hlen]; omega) (by rw [hlen]; omega) (by omega)
  obtain ⟨s5, f1, f2, f3⟩ := qNots_ev hs hy (by omega) (by rw [List.length_append]; omega) p3 hb
  refine ⟨s5, ?_, (((e2.mono (by decide)).tr (only.up (by decide))).tr d2).tr (p2.tr f2), f3⟩
  unfold mUf
  suffices e : m_qGoesOnTest_L0 KTe (fl + 1) s = m_qGoesOnTest_L0 KTe fl s5 by rw [e]
  rw [m_qGoesOnTest_L0]
  refine st_t (z32 h5) (st_bind e1 (st_t (by rw [hc]) (st_bind hsq (st_f n10 (st_bnd ?_)))))
  refine d1.trans (st_bnd (st_bnd ?_))
  rw [p1]
  exact st_bind f1 rfl
theorem mUf_on (h : m_qGoesOnTest_L0 KTe fl s = some (1, s')) : mUf k fl fo s = mTf k fo s' := by
  unfold mUf
  exact st_bind h (st_f n10 rfl)
theorem mUf_off (h : m_qGoesOnTest_L0 KTe fl s = some (0, s')) : mUf k fl (fo + 1) s = k s' := by
  unfold mUf
  exact st_bind h (st_t i32_0 L2_0)
theorem U_and (h : mQ T n tk s p C (W ++ ops.reverse) b o) (hl : C.length + W.length + ops.length < 1670) (hc : hereW T n (rn qB T n p) (wo 80) = true) (hs : s10 W) (hops : ∀ y ∈ ops, y = 10) (hb : b ≤ W.length) : ∃ s', mUf k (fl + 1) fo s = mTf k fo s' ∧ only pks s s' ∧ mQ T n tk s' (rn qL T n (rn qB T n p)) (C ++ ops) (W ++ [10]) b o := by
  have h5 := h.b5
  obtain ⟨s1, e1, e2, e3⟩ := h.sk'
  have hq := sk_sk T n p
  have hb1 := bA_b h.1.1 (rn qB T n p)
  have c93 : ¬ i32 (bA T n (rn qB T n p)) = i32 93 := ne32 (by omega) (by omega) (here_L hc (by decide))
  obtain ⟨s2, t1, t2, t3⟩ := m_takes_t e3.1 (a := 80) (by decide) (by rw [hq]; exact hc)
  rw [hq] at t3
  obtain ⟨s3, f1, f2, f3⟩ := go87 (fun (s45 : MS) =>
            gd (ok 1700 (s45 99 0)) <|
            bnd (up s45 98 (i32 (s45 99 0)) 10) fun s47 =>
            bnd (up s47 99 0 ((s47 99 0) + 1)) fun s48 =>
            some (1, s48)) hs ops FU C s2 (by have := FU_ge; omega) hops (by omega) (e3.at' t2 t3) hb
  obtain ⟨s4, p1, p2, p3⟩ := push_ev f3 (by omega) (x := 10) (by omega)
  refine ⟨s4, mUf_on ?_, ((e2.mono (by decide)).tr (t2.mono (by decide))).tr (f2.tr p2), p3⟩
  rw [m_qGoesOnTest_L0]
  refine st_t (z32 h5) (st_bind e1 (st_f c93 ?_))
  unfold KTe
  refine st_bind t1 (st_f n10 (f1.trans (st_gd ?_ (st_bnd (st_bnd ?_)))))
  · rw [f3.2.1.2.1]; unfold ok; rw [i32_id (by omega) (by omega)]; omega
  · rw [p1]
theorem U_or (h : mQ T n tk s p C (W ++ ops.reverse) b o) (hl : C.length + W.length + ops.length < 1670) (hc : hereW T n (rn qB T n p) (wo 81) = true) (hs : s11 W) (hops : ∀ y ∈ ops, y = 10 ∨ y = 11) (hb : b ≤ W.length) : ∃ s', mUf k (fl + 1) fo s = mTf k fo s' ∧ only pks s s' ∧ mQ T n tk s' (rn qL T n (rn qB T n p)) (C ++ ops) (W ++ [11]) b o := by
  have h5 := h.b5
  obtain ⟨s1, e1, e2, e3⟩ := h.sk'
  have hq := sk_sk T n p
  have hb1 := bA_b h.1.1 (rn qB T n p)
  have c93 : ¬ i32 (bA T n (rn qB T n p)) = i32 93 := ne32 (by omega) (by omega) (here_L hc (by decide))
  have hw := (hereW_at hc).2.2
  have tno := takes_no e3.1 hq (a := 80) (by decide) (by unfold hereW; rw [hw]; simp [wo])
  obtain ⟨s2, t1, t2, t3⟩ := m_takes_t e3.1 (a := 81) (by decide) (by rw [hq]; exact hc)
  rw [hq] at t3
  obtain ⟨s3, f1, f2, f3⟩ := go137 (fun (s36 : MS) =>
              gd (ok 1700 (s36 99 0)) <|
              bnd (up s36 98 (i32 (s36 99 0)) 11) fun s38 =>
              bnd (up s38 99 0 ((s38 99 0) + 1)) fun s39 =>
              some (1, s39)) hs ops FU C s2 (by have := FU_ge; omega) hops (by omega) (e3.at' t2 t3) hb
  obtain ⟨s4, p1, p2, p3⟩ := push_ev f3 (by omega) (x := 11) (by omega)
  refine ⟨s4, mUf_on ?_, ((e2.mono (by decide)).tr (t2.mono (by decide))).tr (f2.tr p2), p3⟩
  rw [m_qGoesOnTest_L0]
  refine st_t (z32 h5) (st_bind e1 (st_f c93 ?_))
  unfold KTe
  refine st_bind tno (st_t i32_0 (st_bind t1 (st_f n10 (f1.trans (st_gd ?_ (st_bnd (st_bnd ?_)))))))
  · rw [f3.2.1.2.1]; unfold ok; rw [i32_id (by omega) (by omega)]; omega
  · rw [p1]
/-- no more words: the end, or a fault if a bracket is open -/
theorem U_off (h : mQ T n tk s p C W b o) (hlC : C.length < 1690) (hl : W.length < 1680) (hc1 : hereW T n (rn qB T n p) (wo 80) = false) (hc2 : hereW T n (rn qB T n p) (wo 81) = false) :
    (¬ 25 ∈ W → ∃ s', mUf k (fl + 1) (fo + 1) s = k s' ∧ only pks s s' ∧ mQ T n tk s' (rn qB T n p) C W b o) ∧ (25 ∈ W → bA T n (rn qB T n p) ≠ 93 → ∃ s', mUf k (fl + 1) (fo + 1) s = k s' ∧ mBq 1 (rn qB T n p) s s') := by
  have h5 := h.b5
  obtain ⟨s1, e1, e2, e3⟩ := h.sk'
  have hq := sk_sk T n p
  have hb1 := bA_b h.1.1 (rn qB T n p)
  have t1 := takes_no e3.1 hq (a := 80) (by decide) hc1
  have t2 := takes_no e3.1 hq (a := 81) (by decide) hc2
  have hsq := qHasSq_ev e3 (by omega)
  have g5 := e3.b5
  have g2 : s1 2 0 = rn qB T n p := e3.1.2.2.2.1
  constructor
  · intro hn
    rw [decide_eq_false hn, b2i_f] at hsq
    refine ⟨s1, mUf_off ?_, e2.mono (by decide), e3⟩
    have tail : KTe s1 = some (0, s1) := by
      unfold KTe
      exact st_bind t1 (st_t i32_0 (st_bind t2 (st_t i32_0 (st_t (z32 g5) (st_bind hsq (st_t i32_0 rfl))))))
    rw [m_qGoesOnTest_L0]
    refine st_t (z32 h5) (st_bind e1 ?_)
    by_cases c : bA T n (rn qB T n p) = 93
    · exact st_t (by rw [c]) (st_bind hsq (st_t i32_0 tail))
    · exact st_f (ne32 (by omega) (by omega) c) tail
  · intro hm hc
    rw [decide_eq_true hm, b2i_t] at hsq
    refine ⟨up (up s1 5 0 1) 6 0 (s1 2 0), mUf_off ?_, ?_⟩
    · rw [m_qGoesOnTest_L0]
      refine st_t (z32 h5) (st_bind e1 (st_f (ne32 (by omega) (by omega) hc) ?_))
      unfold KTe
      exact st_bind t1 (st_t i32_0 (st_bind t2 (st_t i32_0 (st_t (z32 g5) (st_bind hsq (st_f n10 (st_bind (m_fail_ev g5) rfl)))))))
    · rw [g2]
      exact (mB.up (k := 1) (pl := rn qB T n p) (s := s1) (ks := []) only.rf (by simp)).q (e2.mono (by decide)) (e3.c97 hlC)
end
