set_option maxRecDepth 100000
/-! LAYER 2: both read a fact -/
section
variable {T : Int → Int} {n : Int} {fl : Bool}
theorem qSums_bad {tk p b o : Int} {s : MS} {C W : List Int} (h : mQ T n tk s p C W b o) (htk : tk = 0 ∨ tk = 1) (hl : C.length + W.length < 1680) (hc : bA T n (rn qB T n p) ≠ 40) (hw : wcA tk T n (rn qB T n p) = -1) (hd : qD (bA T n (rn qB T n p)) = false) : ∃ s', m_qSums s = some (0, s') ∧ mBq 1 (rn qB T n p) s s' := by
  have hFU := FU_ge
  obtain ⟨f, hf⟩ : ∃ f, FU = f + 2 := ⟨FU - 2, by omega⟩
  obtain ⟨g, ⟨⟨a1, a2⟩, a3, a4⟩, ⟨a5, a6⟩, a7, a8, a9, a10⟩ := id h
  have ho2 : only [101] s (up s 101 0 (s 99 0)) := only.up (by decide)
  have hQ2 : mQ T n tk (up s 101 0 (s 99 0)) p C W W.length o := ⟨g.of' ho2 (by decide), ⟨⟨by rw [ho2 97 (by decide)]; exact a1, a2.of (ho2 96 (by decide))⟩, by rw [ho2 99 (by decide)]; exact a3, a4.of (ho2 98 (by decide))⟩, ⟨by rw [ho2 100 (by decide)]; exact a5, by rw [up_s]; exact a3⟩, by rw [ho2 47 (by decide)]; exact a7, a8, ⟨by omega, by omega⟩, a10⟩
  have hnd := tkN_nd (T := T) (n := n) (p := p) (lo := 0) (hi := 9999) hd
  obtain ⟨s', e1, e2⟩ := E_numB (k := kS) (was := s 101 0) (fi := f) (fo := f) hQ2 htk hl hc hw (by rw [hnd]; exact n_10)
  rw [hnd] at e2
  obtain ⟨e2, e3, e4, e5⟩ := e2
  refine ⟨up s' 101 0 (s 101 0), ?_, (ho2.mono (by decide)).tr (e2.tr (only.up (by decide))), by rw [up_k _ _ _ _ (by decide)]; exact e3, by rw [up_k _ _ _ _ (by decide)]; exact e4, by rw [up_row (by decide)]; exact e5⟩
  have h1 : m_qSums s = mEf kS (s 101 0) FU (f + 1) (up s 101 0 (s 99 0)) := by
    rw [qSums_eq]
    conv => lhs; rw [hf]
    exact L15_go hQ2.b5
  rw [h1]
  conv => lhs; rw [hf]
  rw [e1]
  unfold kS
  rw [hf, m_qSums_L53]
  exact st_f (by rw [e3]; exact n10) (st_bnd rfl)
theorem kFa_bad {v kd : Int} {s : MS} (h5 : s 5 0 = kd) (hk : 1 ≤ kd ∧ kd ≤ 5) : kFa (v, s) = some (0, s) := by
  unfold kFa
  exact st_f (by rw [show ((v, s) : Int × MS).2 5 0 = kd from h5, i32_id (by omega) (by omega)]; omega) rfl
theorem w_tops {W rs : List Int} (hW10 : ∀ y ∈ W, 10 ≤ y) (hrs : ∀ y ∈ rs, y = 12) : (∀ y ∈ W ++ rs.reverse, 10 ≤ y) ∧ s14 (W ++ rs.reverse) ∧ s34 (W ++ rs.reverse) := by
  have h1 : ∀ y ∈ W ++ rs.reverse, 10 ≤ y := by
    intro y hy
    rcases List.mem_append.mp hy with hy | hy
    · exact hW10 y hy
    · rw [hrs y (List.mem_reverse.mp hy)]; omega
  refine ⟨h1, ?_, ?_⟩
  · by_cases e : W ++ rs.reverse = []
    · exact Or.inl e
    · have := h1 _ (List.getLast_mem e)
      exact Or.inr ⟨_, _, (List.dropLast_concat_getLast e).symm, by omega⟩
  · by_cases e : W ++ rs.reverse = []
    · exact Or.inl e
    · have := h1 _ (List.getLast_mem e)
      exact Or.inr ⟨_, _, (List.dropLast_concat_getLast e).symm, by omega, by omega⟩
theorem than_ev {τ : XS} {c m x y : Int} (hc : 1514 ≤ c) (ht : τ c (-1) = 19) (hx : 1514 ≤ x) (hy : 1514 ≤ y) : x22_init true c x m y τ = some (0, ux (ux (ux τ c 0 x) c 2 m) c 1 y) := by
  have g0 := tgf (τ := τ) (t := 19) (new_fre hc) ht
  have g1 := tgf (τ := ux τ c 0 x) (t := 19) (new_fre hc) (by rw [ux_i _ _ _ _ (by decide)]; exact ht)
  have g2 := tgf (τ := ux (ux τ c 0 x) c 2 m) (t := 19) (new_fre hc) (by rw [ux_i _ _ _ _ (by decide), ux_i _ _ _ _ (by decide)]; exact ht)
  unfold x22_init x12_init
  simp (disch := omega) only [gd_t, gd_T, gd_ok, not_false_eq_true, eq_self, bnd_r, bind_s, ite_t, ite_n, ite_T, ite_F, i32_id, g0, fre_nf (new_fre hx), g1, g2, fre_nf (new_fre hy)]
def sgs (c : Int) : Prop := c = 60 ∨ c = 62 ∨ c = 61
/-- two sums and a sign between them -/
theorem cmp_ok (p pm o : Int) (τ : XS) (s : MS) (C W : List Int) (hpm : rn qB T n pm = rn qB T n p) (hG : xG T n τ p) (ho : τ 7 4 = o) (hcx : τ 7 5 = ctx fl) (hQ : mQ T n (tkf fl) s pm C W 0 o) (hW : s14 W) (hW3 : s34 W) (hCW : (C.length + W.length : Int) ≤ rn qB T n p) {X : Option RX} (hX : X = Option.bind (x2_sum (x2_atom 9) τ) (fun z9 =>
        if z9.1 = 0 then
        bnd z9.2.1 fun x1_11 =>
        Option.bind (x2_here z9.2.2) fun z12 =>
        bnd z12.1 fun x2_13 =>
        bnd (fun (x1_14 : Int) (x2_15 : Int) (s16 : XS) =>
            bnd (ux s16 7 2 ((s16 7 2) + 1)) fun s17 =>
            gd (0 ≤ s17 (-1) 0 ∧ 0 ≤ s17 (-1) 1) <|
            bnd (nwx s17 19 0 3 (dfl 19)) fun s19 =>
            Option.bind (x2_sum (x2_atom 9) s19) fun z20 =>
            if z20.1 = 0 then
            Option.bind (x22_init true (s17 (-1) 0) x1_14 x2_15 z20.2.1 z20.2.2) fun z22 =>
            some (0, (s17 (-1) 0), z22.2)
            else some (1, 0, z20.2.2)) fun j23 =>
        if i32 x2_13 = i32 60 then
          j23 x1_11 x2_13 z12.2
        else
          if i32 x2_13 = i32 62 then
            j23 x1_11 x2_13 z12.2
          else
            if i32 x2_13 = i32 61 then
              j23 x1_11 x2_13 z12.2
            else
              Option.bind (x2_wrong 1 (z12.2 7 2) z12.2) fun z27 =>
              gd (z27.1 = 8) <|
              some (1, 0, z27.2)
        else some (1, 0, z9.2.2))) :
    (∃ cs p' c τ' s', X = some (0, c, τ') ∧ (ext τ τ' ∧ xG T n τ' p' ∧ τ' 7 4 = o ∧ (rg (τ (-1) 0) (τ' (-1) 0) c ∧ τ' c (-1) = 19 ∧ ∃ cs1 cs2, XV τ' (rg (τ (-1) 0) (τ' (-1) 0)) fl (Dd o + 2) (τ' c 0) cs1 ∧ XV τ' (rg (τ (-1) 0) (τ' (-1) 0)) fl (Dd o + 2) (τ' c 1) cs2 ∧ (τ' c 2 = 60 ∨ τ' c 2 = 62 ∨ τ' c 2 = 61) ∧ cs = cs1 ++ cs2 ++ [sgc (τ' c 2)])) ∧ rn qB T n p < p' ∧ rmo (60 * (p' - p) - 65) (400 * (p' - p) - 400) τ τ' ∧ (Option.bind (m_qSums s) kFa = some (0, s') ∧ only pks s s' ∧ mQ T n (tkf fl) s' p' (C ++ cs) W 0 o) ∧ (cs.length : Int) ≤ p' - rn qB T n p ∧ wlq T n p ≤ p' - rn qB T n p) ∨
    (∃ kd pl τ' s', X = some (1, 0, τ') ∧ xB kd pl τ τ' ∧ rmo (60 * (n - p) + 35) (400 * (n - p) + 170) τ τ' ∧ Option.bind (m_qSums s) kFa = some (0, s') ∧ mBw kd pl s s' ∧ 1 ≤ kd ∧ kd ≤ 5) := by
  have hp := hG.2.2.2.2.1
  have hn := hG.1.1
  have hle := rn_le (q := qB) (T := T) (n := n) p
  rcases sums_ok p pm o τ s C W 0 hpm hG ho hcx hQ hW hW3 hCW with ⟨cs1, p1, c1, τ1, s1, x1, ⟨x2, x3, x4, x5⟩, ⟨x6, x6'⟩, x7, ⟨y1, y2, y3⟩, x8, nx⟩ | ⟨kd, pl, τ1, s1, x1, x2, x3, x4, x5, x6⟩
  · have hp1 := x3.2.2.2.2.1
    have hh := here_ev x3
    rw [x6, ux_self x3.2.2.2.1] at hh
    have hb1 := bA_b hG.1 p1
    have hlk := m_look_id y3.1 x6
    have g5 := y3.b5
    have g2 : s1 2 0 = p1 := y3.1.2.2.2.1
    have al1 := x3.2.2.2.2.2.1
    have c1r := XV_dyn x5
    unfold rg at c1r
    have hN0 := hG.2.2.2.2.2.1.1
    have x74 : τ1 7 2 = p1 := x3.2.2.2.1
    by_cases hs : sgs (bA T n p1)
    · have hin := bA_at (T := T) (n := n) (p := p1) (by unfold sgs at hs; omega)
      have hG2 := x3.to (q := p1 + 1) (by omega)
      have hN2 : ux τ1 7 2 (p1 + 1) (-1) = τ1 (-1) := ux_cell (by decide)
      have hal2 := hG2.2.2.2.2.2.1
      have hN := hal2.1
      have hS := hal2.2.1
      obtain ⟨τ3, n1, n2, n3, n4, n5, n6, n7, n8⟩ := newOb_ev (τ0 := τ) hal2 (x2.u7 (Or.inl rfl)) 19 3 (by omega)
      rw [hN2] at n4 n5 n6 n7 hN hS
      have n77 : τ3 7 = ux τ1 7 2 (p1 + 1) 7 := n7 7 (by omega) (by omega)
      have hG3 : xG T n τ3 (p1 + 1) := hG2.of n8 n2 (by rw [n77, ux_s]) (by omega)
      have hwq : wlq T n p ≤ p1 - rn qB T n p := by
        unfold wlq
        by_cases q : rn qL T n (rn qB T n p) ≤ p1
        · omega
        · have hh1 := rn_in (q := qL) (T := T) (n := n) (p := rn qB T n p) (k := p1) (by omega) (by omega)
          rw [qL_t] at hh1
          unfold sgs at hs
          omega
      have hsg : qL (bA T n p1) = false ∧ qD (bA T n p1) = false := by unfold sgs at hs; rw [qL_f, qD_f]; omega
      have Q2 : mQ T n (tkf fl) (up s1 2 0 (s1 2 0 + 1)) (p1 + 1) (C ++ cs1) W 0 o := y3.at2 (only.up (by decide)) (y3.1.sign hsg hin.2 (only.up (by decide)) (by rw [up_s, g2]))
      have hle2 := rn_le (q := qB) (T := T) (n := n) (p1 + 1)
      have hsum2 := sums_ok (p1 + 1) (p1 + 1) o τ3 (up s1 2 0 (s1 2 0 + 1)) (C ++ cs1) W 0 rfl hG3 (by rw [n77, ux_i _ _ _ _ (by decide)]; exact x4) (by rw [n77, ux_i _ _ _ _ (by decide)]; exact ctx_ext x2 hcx) Q2 hW hW3 (by rw [List.length_append]; omega)
      have hXs : ∀ R, Option.bind (x2_sum (x2_atom 9) τ3) (fun z20 => if z20.1 = 0 then Option.bind (x22_init true (τ1 (-1) 0) c1 (bA T n p1) z20.2.1 z20.2.2) (fun z22 => some (0, (τ1 (-1) 0), z22.2)) else some (1, 0, z20.2.2)) = R → X = R := by
        intro R hR
        have nn : 0 ≤ ux τ1 7 2 (p1 + 1) (-1) 0 ∧ 0 ≤ ux τ1 7 2 (p1 + 1) (-1) 1 := by rw [hN2]; omega
        have tail : ∀ Y, (bnd (ux τ1 7 2 ((τ1 7 2) + 1)) fun s17 =>
            gd (0 ≤ s17 (-1) 0 ∧ 0 ≤ s17 (-1) 1) <|
            bnd (nwx s17 19 0 3 (dfl 19)) fun s19 =>
            Option.bind (x2_sum (x2_atom 9) s19) fun z20 =>
            if z20.1 = 0 then
            Option.bind (x22_init true (s17 (-1) 0) c1 (bA T n p1) z20.2.1 z20.2.2) fun z22 =>
            some (0, (s17 (-1) 0), z22.2)
            else some (1, 0, z20.2.2)) = Y → Y = R := by
          intro Y hY
          rw [← hY, x74]
          refine st_bnd (st_gd nn (st_bnd ?_))
          rw [show nwx (ux τ1 7 2 (p1 + 1)) 19 0 3 (dfl 19) = τ3 from n1, hN2]
          exact hR
        rw [hX]
        refine st_bind x1 (st_t rfl (st_bnd (st_bind hh (st_bnd (st_bnd ?_)))))
        rcases hs with h | h | h
        · exact st_t (by rw [h]) (tail _ rfl)
        · exact st_f (ne32 (by omega) (by omega) (by omega)) (st_t (by rw [h]) (tail _ rfl))
        · exact st_f (ne32 (by omega) (by omega) (by omega)) (st_f (ne32 (by omega) (by omega) (by omega)) (st_t (by rw [h]) (tail _ rfl)))
      have hms : ∀ s4 s5, m_qSums (up s1 2 0 (s1 2 0 + 1)) = some (0, s4) → m_qCode (sgc (bA T n p1)) s4 = some (0, s5) → Option.bind (m_qSums s) kFa = some (0, s5) := by
        intro s4 s5 h4 h5
        refine st_bind y1 ?_
        unfold kFa
        refine st_t (z32 g5) (st_bind hlk (st_bnd (st_bnd ?_)))
        rcases hs with h | h | h
        · rw [h] at h5
          exact st_t (by rw [h]) (st_bnd (st_bind h4 (st_bnd (st_t (by rw [h]) (st_bind h5 rfl)))))
        · rw [h] at h5
          have q1 : ¬ i32 (bA T n p1) = i32 60 := ne32 (by omega) (by omega) (by omega)
          exact st_f q1 (st_t (by rw [h]) (st_bnd (st_bind h4 (st_bnd (st_f q1 (st_t (by rw [h]) (st_bind h5 rfl)))))))
        · rw [h] at h5
          have q1 : ¬ i32 (bA T n p1) = i32 60 := ne32 (by omega) (by omega) (by omega)
          have q2 : ¬ i32 (bA T n p1) = i32 62 := ne32 (by omega) (by omega) (by omega)
          exact st_f q1 (st_f q2 (st_t (by rw [h]) (st_bnd (st_bind h4 (st_bnd (st_f q1 (st_f q2 (st_bind h5 rfl))))))))
      rcases hsum2 with ⟨cs2, p2, c2, τ4, s4, u1, ⟨u2, u3, u4, u5⟩, ⟨u6, u6'⟩, u7, ⟨v1, v2, v3⟩, u8, nx2⟩ | ⟨kd, pl, τ4, s4, u1, u2, u3, u4, u5, u6⟩
      · have hp2 := u3.2.2.2.2.1
        have c2r := XV_dyn u5
        unfold rg at c2r
        rw [n5] at c2r
        obtain ⟨s5, w1, w2, w3⟩ := qCode_ev v3 (by rw [List.length_append, List.length_append]; omega) (sgc (bA T n p1))
        have e4P : τ4 (τ1 (-1) 0) = τ3 (τ1 (-1) 0) := u2.2.2.1 _ (by omega) (by omega) (by omega) (by omega)
        have tP : τ4 (τ1 (-1) 0) (-1) = 19 := by rw [e4P]; exact n4
        have pe := than_ev (τ := τ4) (c := τ1 (-1) 0) (m := bA T n p1) (x := c1) (y := c2) hN tP (by omega) (by omega)
        obtain ⟨τ6, e6⟩ : ∃ t, ux (ux (ux τ4 (τ1 (-1) 0) 0 c1) (τ1 (-1) 0) 2 (bA T n p1)) (τ1 (-1) 0) 1 c2 = t := ⟨_, rfl⟩
        rw [e6] at pe
        have f6 : ∀ y, y ≠ τ1 (-1) 0 → τ6 y = τ4 y := fun y hy => by rw [← e6, ux_cell hy, ux_cell hy, ux_cell hy]
        have al6 : al τ6 := by rw [← e6]; exact ((u3.2.2.2.2.2.1.u (by omega) (by omega)).u (by omega) (by omega)).u (by omega) (by omega)
        have hNle := x2.1.1
        have he6 : ext τ τ6 := by
          have h1 : ext τ τ4 := n3.tr u2
          rw [← e6]; exact ((h1.un hNle hN).un hNle hN).un hNle hN
        have hN6 : τ6 (-1) = τ4 (-1) := f6 _ (by omega)
        have h67 : τ6 7 = τ4 7 := f6 _ (by omega)
        have hNle2 := u2.1.1
        rw [n5] at hNle2
        have p0 : τ6 (τ1 (-1) 0) 0 = c1 := by rw [← e6, ux_i _ _ _ _ (by decide), ux_i _ _ _ _ (by decide), ux_s]
        have p1' : τ6 (τ1 (-1) 0) 1 = c2 := by rw [← e6, ux_s]
        have p2' : τ6 (τ1 (-1) 0) 2 = bA T n p1 := by rw [← e6, ux_i _ _ _ _ (by decide), ux_s]
        have pt : τ6 (τ1 (-1) 0) (-1) = 19 := by rw [← e6, ux_i _ _ _ _ (by decide), ux_i _ _ _ _ (by decide), ux_i _ _ _ _ (by decide)]; exact tP
        refine Or.inl ⟨cs1 ++ cs2 ++ [sgc (bA T n p1)], p2, τ1 (-1) 0, τ6, s5, hXs _ (st_bind u1 (st_t rfl (st_bind pe rfl))), ⟨he6, hG.of he6 al6 (by rw [h67]; exact u3.2.2.2.1) hp2, by rw [h67]; exact u4, ⟨by unfold rg; rw [hN6]; omega, pt, cs1, cs2, ?_, ?_, by rw [p2']; exact hs, by rw [p2']⟩⟩, by omega, ?_, ⟨hms _ _ v1 w1, (y2.tr (only.up (by decide))).tr (v2.tr w2), by simpa [List.append_assoc] using w3⟩, by simp; omega, by omega⟩
        · rw [p0, hN6]
          refine XV_more (fun y hy => ?_) _ _ _ (XV_kept (fun y hy => ?_) _ _ _ x5)
          · unfold rg at *; omega
          · unfold rg at hy
            rw [f6 y (by omega), u2.2.2.1 y (by omega) (by omega) (by omega) (by omega), n7 y (by omega) (by omega), ux_cell (by omega)]
        · rw [p1', hN6]
          refine XV_more (fun y hy => ?_) _ _ _ (XV_kept (fun y hy => ?_) _ _ _ u5)
          · unfold rg at *; omega
          · unfold rg at hy
            rw [n5] at hy
            rw [f6 y (by omega)]
        · unfold rmo at *
          rw [hN6]
          omega
      · obtain ⟨k1, k2, k3, k4⟩ := u5
        obtain ⟨s5, es5⟩ : ∃ s5, up (up s4 96 (s4 97 0) (sgc (bA T n p1))) 97 0 (s4 97 0 + 1) = s5 := ⟨_, rfl⟩
        have w1 : m_qCode (sgc (bA T n p1)) s4 = some (0, s5) := by
          have e : up s4 96 (s4 97 0) (sgc (bA T n p1)) 97 0 = s4 97 0 := by rw [up_k _ _ _ _ (by decide)]
          unfold m_qCode
          simp (disch := omega) only [gd_t, gd_T, gd_ok, not_false_eq_true, eq_self, bnd_r, bind_s, ite_t, ite_n, ite_T, ite_F, i32_id, e, es5]
        refine Or.inr ⟨kd, pl, τ4, s5, hXs _ (st_bind u1 (st_f n_10 rfl)), u2.after n3, ?_, hms _ _ u4 w1, ⟨?_, ?_, ?_⟩, u6⟩
        · unfold rmo at *
          omega
        · refine (y2.tr (only.up (by decide))).tr (k1.tr ?_)
          rw [← es5]; exact (only.up (by decide)).tr (only.up (by decide))
        · rw [← es5, up_k _ _ _ _ (by decide), up_k _ _ _ _ (by decide)]; exact k2
        · rw [← es5, up_k _ _ _ _ (by decide), up_k _ _ _ _ (by decide)]; exact k3
    · unfold sgs at hs
      have q1 : ¬ i32 (bA T n p1) = i32 60 := ne32 (by omega) (by omega) (by omega)
      have q2 : ¬ i32 (bA T n p1) = i32 62 := ne32 (by omega) (by omega) (by omega)
      have q3 : ¬ i32 (bA T n p1) = i32 61 := ne32 (by omega) (by omega) (by omega)
      refine Or.inr ⟨1, p1, ux (ux τ1 8 6 1) 8 7 p1, up (up s1 5 0 1) 6 0 p1, ?_, xB.mk' x2 al1 1 p1, ?_, ?_, ⟨y2.tr ((only.up (by decide)).tr (only.up (by decide))), by rw [up_k _ _ _ _ (by decide), up_s], by rw [up_s]⟩, by omega, by omega⟩
      · rw [hX]
        refine st_bind x1 (st_t rfl (st_bnd (st_bind hh (st_bnd (st_bnd (st_f q1 (st_f q2 (st_f q3 (st_bind (z := (8, ux (ux τ1 8 6 1) 8 7 p1)) ?_ (st_gd rfl rfl))))))))))
        show x2_wrong 1 (τ1 7 2) τ1 = _
        rw [x74]; exact wrong_ev _ _ _
      · unfold rmo at *
        rw [u8_N, u8_N, u8_N, u8_N]
        omega
      · refine st_bind y1 ?_
        unfold kFa
        refine st_t (z32 g5) (st_bind hlk (st_bnd (st_bnd (st_f q1 (st_f q2 (st_f q3 (st_bind (z := (0, up (up s1 5 0 1) 6 0 p1)) ?_ rfl)))))))
        show m_fail 1 (s1 2 0) s1 = _
        rw [g2]; exact m_fail_ev g5
  · refine Or.inr ⟨kd, pl, τ1, s1, by rw [hX]; exact st_bind x1 (st_f n_10 rfl), x2, ?_, st_bind x4 (kFa_bad x5.2.1 x6), x5.w, x6⟩
    unfold rmo at *
    omega
end
