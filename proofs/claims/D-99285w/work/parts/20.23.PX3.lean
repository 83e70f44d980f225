set_option maxRecDepth 100000
/-! LAYER 2: both read what stands in brackets -/
noncomputable def xWr (rc : XS → Option RX) (a1 : Int) (s6 : XS) : Option RX :=
    Option.bind (x2_sum rc s6) fun z7 =>
    if z7.1 = 0 then
    bnd z7.2.1 fun x2_9 =>
    bnd (fun (x3_10 : Int) (s11 : XS) =>
        Option.bind (x2_must 41 s11) fun z12 =>
        if z12.1 = 0 then
        bnd (ux z12.2.2 7 4 ((z12.2.2 7 4) - 1)) fun s14 =>
        some (0, x3_10, s14)
        else some (1, 0, z12.2.2)) fun j15 =>
    if i32 a1 ≤ 0 then
      j15 x2_9 z7.2.2
    else
      Option.bind (x2_must 44 z7.2.2) fun z17 =>
      if z17.1 = 0 then
      gd (0 ≤ z17.2.2 (-1) 0 ∧ 0 ≤ z17.2.2 (-1) 1) <|
      bnd (nwx z17.2.2 15 0 3 (dfl 15)) fun s20 =>
      bnd (fun (x2_21 : Int) (w22 : Int) (w23 : Int) (w24 : Int) (s25 : XS) =>
          Option.bind (x2_sum rc s25) fun z26 =>
          if z26.1 = 0 then
          Option.bind (x18_init true w23 w22 x2_21 z26.2.1 z26.2.2) fun z28 =>
          j15 w24 z28.2
          else some (1, 0, z26.2.2)) fun j29 =>
      if i32 a1 = i32 2 then
        j29 x2_9 1 (z17.2.2 (-1) 0) (z17.2.2 (-1) 0) s20
      else
        j29 x2_9 0 (z17.2.2 (-1) 0) (z17.2.2 (-1) 0) s20
      else some (1, 0, z17.2.2)
    else some (1, 0, z7.2.2)
theorem xWr_eq (rc : XS → Option RX) (a1 : Int) (s0 : XS) : x2_within rc a1 s0 = Option.bind (x2_here s0) (fun z2 => if i32 z2.1 = i32 40 then Option.bind (x2_opens (z2.2 7 2) z2.2) (fun z4 => if z4.1 = 0 then bnd (ux z4.2.2 7 2 ((z4.2.2 7 2) + 1)) fun s6 => xWr rc a1 s6 else some (1, 0, z4.2.2)) else Option.bind (x2_wrong 1 (z2.2 7 2) z2.2) fun z31 => gd (z31.1 = 8) <| some (1, 0, z31.2)) := rfl
section
variable {T : Int → Int} {n : Int} {fl : Bool}
theorem pair_ev {τ : XS} {c m x y : Int} (hc : 1514 ≤ c) (ht : τ c (-1) = 15) (hm : m = 0 ∨ m = 1) (hx : 1514 ≤ x) (hy : 1514 ≤ y) : x18_init true c m x y τ = some (0, ux (ux (ux τ c 0 m) c 1 x) c 2 y) := by
  have g0 := tgf (τ := τ) (t := 15) (new_fre hc) ht
  have g1 := tgf (τ := ux τ c 0 m) (t := 15) (new_fre hc) (by rw [ux_i _ _ _ _ (by decide)]; exact ht)
  have g2 := tgf (τ := ux (ux τ c 0 m) c 1 x) (t := 15) (new_fre hc) (by rw [ux_i _ _ _ _ (by decide), ux_i _ _ _ _ (by decide)]; exact ht)
  have bm : bz m := by rcases hm with rfl | rfl; exact bz_0; exact bz_1
  unfold x18_init x16_init
  simp (disch := omega) only [gd_t, gd_T, gd_ok, not_false_eq_true, eq_self, bnd_r, bind_s, ite_t, ite_n, ite_T, ite_F, i32_id, g0, gd_t bm, g1, fre_nf (new_fre hx), g2, fre_nf (new_fre hy)]
theorem ext_lt {τ τ' : XS} (he : ext τ τ') {a b y : Int} (ha : 1514 ≤ a) (hb : b ≤ τ (-1) 0) (hy : rg a b y) : τ' y = τ y := by
  unfold rg at hy
  exact he.2.2.1 y (by omega) (by omega) (by omega) (by omega)
def WinR (T : Int → Int) (n : Int) (fl : Bool) (X : Option RX) (τ1 : XS) (p1 o : Int) (s1 : MS) (C W rs : List Int) (b : Int) (k : Int → MS → Option (Int × MS)) (was : Int) (fi fo : Nat) : Prop :=
  (∃ cs p' c τ' s' fl' fo', X = some (0, c, τ') ∧ (ext τ1 τ' ∧ xG T n τ' p' ∧ τ' 7 4 = o ∧ XV τ' (rg (τ1 (-1) 0) (τ' (-1) 0)) fl (Dd o) c cs) ∧ p1 < p' ∧ rmo (60 * (p' - p1) - 5) (400 * (p' - p1) - 90) τ1 τ' ∧ (mEf k was fi fo s1 = mAf k was fl' fo' s' ∧ only pks s1 s' ∧ mQ T n (tkf fl) s' p' (C ++ cs ++ rs) W b (o - rs.length)) ∧ (cs.length : Int) ≤ p' - p1 ∧ n - p' + 2 ≤ fl' ∧ n - p' + 2 ≤ fo') ∨
  (∃ kd pl τ' s', X = some (1, 0, τ') ∧ xB kd pl τ1 τ' ∧ rmo (60 * (n - p1) + 35) (400 * (n - p1) + 170) τ1 τ' ∧ mEf k was fi fo s1 = k was s' ∧ mBq kd pl s1 s' ∧ 1 ≤ kd ∧ kd ≤ 5)
theorem Dd_s {o : Int} (h : o < 6) : Dd (o + 1) + 2 + 1 = Dd o := by unfold Dd; omega
theorem within_rest {r : Int} (hA : AtomOK T n fl r) (kx : Nat) (p1 o a1 br : Int) (τ1 : XS) (s1 : MS) (C W rs : List Int) (b : Int) (k : Int → MS → Option (Int × MS)) (was : Int) (fi fo : Nat) (hr : n - p1 ≤ r) (ho6 : 0 ≤ o ∧ o < 6) (hkx : 6 - (o + 1) < kx) (hG : xG T n τ1 p1) (ho : τ1 7 4 = o + 1) (hcx : τ1 7 5 = ctx fl) (hQ : mQ T n (tkf fl) s1 p1 C (W ++ rs.reverse ++ [br]) b (o + 1)) (hs : s60 W b) (hrs : ∀ y ∈ rs, 60 ≤ y) (hlo : (rs.length : Int) ≤ o) (hb : b ≤ W.length) (hl : (C.length + W.length + rs.length + 1 : Int) ≤ p1) (hfi : n - p1 + 2 ≤ fi) (hfo : n - p1 + 2 ≤ fo) (hab : (a1 = 0 ∧ br = 20) ∨ (a1 = 1 ∧ br = 21) ∨ (a1 = 2 ∧ br = 22)) :
    WinR T n fl (xWr (x2_atom kx) a1 τ1) τ1 p1 o s1 C W rs b k was fi fo := by
  have hal := hG.2.2.2.2.2.1
  have hN := hal.1
  have hp := hG.2.2.2.2.1
  have hn := hG.1.1
  have hle := rn_le (q := qB) (T := T) (n := n) p1
  have hsk := sk_b hG
  have hlen : (W ++ rs.reverse).length = W.length + rs.length := by simp
  have hlen2 : (W ++ rs.reverse ++ [br]).length = W.length + rs.length + 1 := by simp; omega
  have w14 : s14 (W ++ rs.reverse ++ [br]) := Or.inr ⟨_, br, rfl, by omega⟩
  have w34 : s34 (W ++ rs.reverse ++ [br]) := Or.inr ⟨_, br, rfl, by omega, by omega⟩
  have hnb : ∀ ops : List Int, (∀ y ∈ ops, 1 ≤ y ∧ y ≤ 4) → ∀ y ∈ ops, ¬ brk y := fun ops h y hy => by have := h y hy; unfold brk; omega
  have hsum := sum_ok hA kx p1 p1 (o + 1) τ1 s1 C (W ++ rs.reverse ++ [br]) b k was fi fo hr rfl hkx hG ho hcx hQ w14 w34 (s60_34 (by omega)) (by rw [hlen2]; omega) (by rw [hlen2]; omega) (by omega) (by omega)
  unfold xWr
  rcases hsum with ⟨p', pm', c, τ2, s2, D, ops, fl', fo', x1, ⟨x2, x3, x4, x5⟩, ⟨z1, z2, z3⟩, x7, ⟨y1, y2, y3⟩, x8, o1, nx, x9, x10⟩ | ⟨kd, pl, τ2, s2, x1, x2, x3, x4, x5, x6⟩
  · have hp' := x3.2.2.2.2.1
    have hq' : rn qB T n p' = p' := by rw [← z1]; exact sk_sk T n pm'
    have hal2 := x3.2.2.2.2.2.1
    obtain ⟨fl'', rfl⟩ : ∃ g, fl' = g + 1 := ⟨fl' - 1, by omega⟩
    obtain ⟨fo'', rfl⟩ : ∃ g, fo' = g + 1 := ⟨fo' - 1, by omega⟩
    have hops := hnb ops o1
    rcases hab with ⟨rfl, rfl⟩ | hab
    · by_cases hc : bA T n p' = 41
      · obtain ⟨m1, m2⟩ := must_t x3 (c := 41) (by omega) (by rw [hq']; exact hc)
        rw [hq'] at m1 m2
        have hin := bA_at (T := T) (n := n) (p := p') (by omega)
        obtain ⟨s3, a1', a2, a3⟩ := A_close (k := k) (was := was) (fl := fl'') (fo := fo'' + 1) y3 (by rw [List.length_append]; omega) (by rw [z1]; exact hc) (Or.inl rfl) hops hs hrs (by omega) hb
        rw [z1, if_pos rfl, List.append_nil, show o + 1 - 1 - (rs.length : Int) = o - rs.length by omega] at a3
        have e4 : ux τ2 7 2 (p' + 1) 7 4 = o + 1 := by rw [ux_i _ _ _ _ (by decide)]; exact x4
        have he : ext τ1 (ux (ux τ2 7 2 (p' + 1)) 7 4 o) := (x2.u7 (Or.inl rfl)).u7 (Or.inr (Or.inr rfl))
        have hN' : ux (ux τ2 7 2 (p' + 1)) 7 4 o (-1) = τ2 (-1) := by rw [ux_cell (by decide), ux_cell (by decide)]
        refine Or.inl ⟨D ++ ops, p' + 1, c, ux (ux τ2 7 2 (p' + 1)) 7 4 o, s3, fl'', fo'' + 1, ?_, ⟨he, m2.opn o, by rw [ux_s], ?_⟩, by omega, ?_, ⟨y1.trans a1', y2.tr a2, by rw [← List.append_assoc]; exact a3⟩, by rw [List.length_append]; omega, by omega, by omega⟩
        · refine st_bind x1 (st_t rfl (st_bnd (st_bnd (st_t (by decide) (st_bind m1 (st_t rfl (st_bnd ?_)))))))
          show some (0, c, ux (ux τ2 7 2 (p' + 1)) 7 4 (ux τ2 7 2 (p' + 1) 7 4 - 1)) = _
          rw [e4, show o + 1 - 1 = o by omega]
        · rw [hN', ← Dd_s ho6.2]
          refine XV_mono _ _ _ (XV_kept (fun y hy => ?_) _ _ _ x5)
          unfold rg at hy
          rw [ux_cell (by omega), ux_cell (by omega)]
        · unfold rmo at *
          rw [hN']
          omega
      · obtain ⟨τ3, m1, m2, m3⟩ := must_f x3 (c := 41) (by omega) (by rw [hq']; exact hc)
        rw [hq'] at m2
        obtain ⟨s3, a1', a2⟩ := A_bad (k := k) (was := was) (fl := fl'') (fo := fo'') y3 (by rw [List.length_append]; omega) (by rw [hlen]; omega) (by rw [z1]; exact nx) (by rw [z1]; exact Or.inr ⟨Or.inl rfl, hc⟩) hops (by rw [hlen]; omega)
        rw [z1] at a2
        refine Or.inr ⟨1, p', τ3, s3, ?_, m2.after x2, ?_, y1.trans a1', ⟨y2.tr a2.1, a2.2⟩, by omega, by omega⟩
        · exact st_bind x1 (st_t rfl (st_bnd (st_bnd (st_t (by decide) (st_bind m1 (st_f n_10 rfl))))))
        · unfold rmo at *
          rw [m3]
          omega
    · have ha1 : ¬ i32 a1 ≤ 0 := by rw [i32_id (by omega) (by omega)]; omega
      by_cases hc : bA T n p' = 44
      · obtain ⟨m1, m2⟩ := must_t x3 (c := 44) (by omega) (by rw [hq']; exact hc)
        rw [hq'] at m1 m2
        have hin := bA_at (T := T) (n := n) (p := p') (by omega)
        obtain ⟨s3, a1', a2, a3⟩ := A_comma (k := k) (was := was) (fl := fl'') (fo := fo'') y3 (by rw [List.length_append, hlen]; omega) (by rw [z1]; exact hc) (by omega) hops (by rw [hlen]; omega)
        rw [z1] at a3
        have hN2 : ux τ2 7 2 (p' + 1) (-1) = τ2 (-1) := ux_cell (by decide)
        have hal3 := m2.2.2.2.2.2.1
        have hN3 := hal3.1
        have hS3 := hal3.2.1
        obtain ⟨τ4, n1, n2, n3, n4, n5, n6, n7, n8, n9⟩ := nwx_all hal3 15 0 (sl := 3) (dfl 15) (by omega)
        rw [hN2] at n4 n5 n6 n7 n8 n9 hN3 hS3
        have e7 : τ4 7 = ux τ2 7 2 (p' + 1) 7 := n9 7 (by omega) (by omega)
        have hG4 : xG T n τ4 (p' + 1) := m2.of n3 n2 (by rw [e7]; exact m2.2.2.2.1) m2.2.2.2.2.1
        have w14' : s14 (W ++ rs.reverse ++ [br + 2]) := Or.inr ⟨_, br + 2, rfl, by omega⟩
        have w34' : s34 (W ++ rs.reverse ++ [br + 2]) := Or.inr ⟨_, br + 2, rfl, by omega, by omega⟩
        have hlen3 : (W ++ rs.reverse ++ [br + 2]).length = W.length + rs.length + 1 := by simp; omega
        have hle2 := rn_le (q := qB) (T := T) (n := n) (p' + 1)
        have hFU := FU_ge
        have hsum2 := sum_ok hA kx (p' + 1) (p' + 1) (o + 1) τ4 s3 (C ++ D ++ ops) (W ++ rs.reverse ++ [br + 2]) b k was FU fo'' (by omega) rfl hkx hG4 (by rw [e7, ux_i _ _ _ _ (by decide)]; exact x4) (by rw [e7, ux_i _ _ _ _ (by decide)]; exact ctx_ext x2 hcx) a3 w14' w34' (s60_34 (by omega)) (by rw [hlen3]; omega) (by rw [hlen3]; simp; omega) (by omega) (by omega)
        have heP : ext τ1 τ4 := (x2.u7 (Or.inl rfl)).tr n3
        have hXp : ∀ R, (Option.bind (x2_sum (x2_atom kx) τ4) (fun z26 => if z26.1 = 0 then Option.bind (x18_init true (τ2 (-1) 0) (a1 - 1) c z26.2.1 z26.2.2) (fun z28 => Option.bind (x2_must 41 z28.2) fun z12 => if z12.1 = 0 then bnd (ux z12.2.2 7 4 ((z12.2.2 7 4) - 1)) fun s14 => some (0, τ2 (-1) 0, s14) else some (1, 0, z12.2.2)) else some (1, 0, z26.2.2)) = R) → xWr (x2_atom kx) a1 τ1 = R := by
          intro R hR
          unfold xWr
          have nn : 0 ≤ ux τ2 7 2 (p' + 1) (-1) 0 ∧ 0 ≤ ux τ2 7 2 (p' + 1) (-1) 1 := by rw [hN2]; omega
          refine st_bind x1 (st_t rfl (st_bnd (st_bnd (st_f ha1 (st_bind m1 (st_t rfl (st_gd nn (st_bnd (st_bnd ?_)))))))))
          rw [show nwx ((0, 0, ux τ2 7 2 (p' + 1)) : RX).2.2 15 0 3 (dfl 15) = τ4 from n1]
          rw [show ((0, 0, ux τ2 7 2 (p' + 1)) : RX).2.2 (-1) = τ2 (-1) from hN2]
          rcases hab with ⟨h1, -⟩ | ⟨h1, -⟩
          · refine st_f (by rw [h1]; decide) ?_
            rw [h1] at hR
            exact hR
          · refine st_t (by rw [h1]) ?_
            rw [h1] at hR
            exact hR
        have hgoal : ∀ X, xWr (x2_atom kx) a1 τ1 = X → WinR T n fl X τ1 p1 o s1 C W rs b k was fi fo → WinR T n fl (xWr (x2_atom kx) a1 τ1) τ1 p1 o s1 C W rs b k was fi fo := fun X h h2 => by rw [h]; exact h2
        refine hgoal _ (hXp _ rfl) ?_
        rcases hsum2 with ⟨q', qm', c2, τ5, s5, D2, ops2, gl', go', u1, ⟨u2, u3, u4, u5⟩, ⟨v1, v2, v3⟩, u7, ⟨w1, w2, w3⟩, u8, u9, nx2, u10, u11⟩ | ⟨kd, pl, τ5, s5, u1, u2, u3, u4, u5, u6⟩
        · have hq2 := u3.2.2.2.2.1
          have hsq : rn qB T n q' = q' := by rw [← v1]; exact sk_sk T n qm'
          have hops2 := hnb ops2 u9
          have hal5 := u3.2.2.2.2.2.1
          have cr := XV_dyn x5
          have c2r := XV_dyn u5
          unfold rg at cr c2r
          rw [n7] at c2r
          obtain ⟨gl'', rfl⟩ : ∃ g, gl' = g + 1 := ⟨gl' - 1, by omega⟩
          obtain ⟨go'', rfl⟩ : ∃ g, go' = g + 1 := ⟨go' - 1, by omega⟩
          have e5P : τ5 (τ2 (-1) 0) = τ4 (τ2 (-1) 0) := u2.2.2.1 _ (by omega) (by omega) (by omega) (by omega)
          have tP : τ5 (τ2 (-1) 0) (-1) = 15 := by rw [e5P]; exact n4
          have pe := pair_ev (τ := τ5) (c := τ2 (-1) 0) (m := a1 - 1) (x := c) (y := c2) hN3 tP (by omega) (by omega) (by omega)
          obtain ⟨τ6, e6⟩ : ∃ t, ux (ux (ux τ5 (τ2 (-1) 0) 0 (a1 - 1)) (τ2 (-1) 0) 1 c) (τ2 (-1) 0) 2 c2 = t := ⟨_, rfl⟩
          rw [e6] at pe
          have f6 : ∀ y, y ≠ τ2 (-1) 0 → τ6 y = τ5 y := fun y hy => by rw [← e6, ux_cell hy, ux_cell hy, ux_cell hy]
          have al6 : al τ6 := by rw [← e6]; exact ((hal5.u (by omega) (by omega)).u (by omega) (by omega)).u (by omega) (by omega)
          have he6 : ext τ1 τ6 := by
            have h1 : ext τ1 τ5 := heP.tr u2
            have h2 : τ1 (-1) 0 ≤ τ2 (-1) 0 := x2.1.1
            rw [← e6]; exact ((h1.un h2 hN3).un h2 hN3).un h2 hN3
          have hN6 : τ6 (-1) = τ5 (-1) := f6 _ (by omega)
          have h67 : τ6 7 = τ5 7 := f6 _ (by omega)
          have hG6 : xG T n τ6 q' := hG.of he6 al6 (by rw [h67]; exact u3.2.2.2.1) hq2
          by_cases hc2 : bA T n q' = 41
          · obtain ⟨m3, m4⟩ := must_t hG6 (c := 41) (by omega) (by rw [hsq]; exact hc2)
            rw [hsq] at m3 m4
            have hin2 := bA_at (T := T) (n := n) (p := q') (by omega)
            obtain ⟨s6, d1, d2, d3⟩ := A_close (k := k) (was := was) (fl := gl'') (fo := go'' + 1) w3 (by simp; omega) (by rw [v1]; exact hc2) (by omega) hops2 hs hrs (by omega) hb
            rw [v1, if_neg (by omega), show o + 1 - 1 - (rs.length : Int) = o - rs.length by omega, show br + 2 - 18 = 5 + (a1 - 1) by omega] at d3
            have e4 : ux τ6 7 2 (q' + 1) 7 4 = o + 1 := by rw [ux_i _ _ _ _ (by decide), h67]; exact u4
            have he : ext τ1 (ux (ux τ6 7 2 (q' + 1)) 7 4 o) := (he6.u7 (Or.inl rfl)).u7 (Or.inr (Or.inr rfl))
            have hN' : ux (ux τ6 7 2 (q' + 1)) 7 4 o (-1) = τ5 (-1) := by rw [ux_cell (by decide), ux_cell (by decide), hN6]
            have hcell : ∀ y, 1514 ≤ y → ux (ux τ6 7 2 (q' + 1)) 7 4 o y = τ6 y := fun y hy => by rw [ux_cell (by omega), ux_cell (by omega)]
            refine Or.inl ⟨(D ++ ops) ++ (D2 ++ ops2) ++ [5 + (a1 - 1)], q' + 1, τ2 (-1) 0, ux (ux τ6 7 2 (q' + 1)) 7 4 o, s6, gl'', go'' + 1, ?_, ⟨he, m4.opn o, by rw [ux_s], ?_⟩, by omega, ?_, ⟨(y1.trans a1').trans (w1.trans d1), (y2.tr a2).tr (w2.tr d2), by simpa [List.append_assoc] using d3⟩, by simp; omega, by omega, by omega⟩
            · refine st_bind u1 (st_t rfl (st_bind pe (st_bind m3 (st_t rfl (st_bnd ?_)))))
              show some (0, τ2 (-1) 0, ux (ux τ6 7 2 (q' + 1)) 7 4 (ux τ6 7 2 (q' + 1) 7 4 - 1)) = _
              rw [e4, show o + 1 - 1 = o by omega]
            · rw [hN', ← Dd_s ho6.2]
              have hNle := u2.1.1
              rw [n7] at hNle
              have hP : ux (ux τ6 7 2 (q' + 1)) 7 4 o (τ2 (-1) 0) = τ6 (τ2 (-1) 0) := hcell _ hN3
              have p0 : τ6 (τ2 (-1) 0) 0 = a1 - 1 := by rw [← e6, ux_i _ _ _ _ (by decide), ux_i _ _ _ _ (by decide), ux_s]
              have p1' : τ6 (τ2 (-1) 0) 1 = c := by rw [← e6, ux_i _ _ _ _ (by decide), ux_s]
              have p2 : τ6 (τ2 (-1) 0) 2 = c2 := by rw [← e6, ux_s]
              have pt : τ6 (τ2 (-1) 0) (-1) = 15 := by rw [← e6, ux_i _ _ _ _ (by decide), ux_i _ _ _ _ (by decide), ux_i _ _ _ _ (by decide)]; exact tP
              refine ⟨by unfold rg; have := x2.1.1; omega, Or.inr (Or.inr (Or.inl ?_))⟩
              rw [hP, p0, p1', p2]
              have t45 : ∀ y, rg (τ1 (-1) 0) (τ2 (-1) 0) y → τ5 y = τ2 y := fun y hy => by
                unfold rg at hy
                rw [u2.2.2.1 y (by omega) (by omega) (by omega) (by omega), n9 y (by omega) (by omega), ux_cell (by omega)]
              refine ⟨pt, D ++ ops, D2 ++ ops2, ?_, ?_, by omega, rfl⟩
              · refine XV_more (fun y hy => ?_) _ _ _ (XV_kept (fun y hy => ?_) _ _ _ x5)
                · unfold rg at *; omega
                · have hy' := hy
                  unfold rg at hy'
                  rw [hcell y (by omega), f6 y (by omega), t45 y hy]
              · refine XV_more (fun y hy => ?_) _ _ _ (XV_kept (fun y hy => ?_) _ _ _ u5)
                · unfold rg at *; have := x2.1.1; omega
                · unfold rg at hy
                  rw [n7] at hy
                  rw [hcell y (by omega), f6 y (by omega)]
            · unfold rmo at *
              rw [hN']
              omega
          · obtain ⟨τ7, m3, m4, m5⟩ := must_f hG6 (c := 41) (by omega) (by rw [hsq]; exact hc2)
            rw [hsq] at m4
            obtain ⟨s6, d1, d2⟩ := A_bad (k := k) (was := was) (fl := gl'') (fo := go'') w3 (by simp; omega) (by rw [hlen]; omega) (by rw [v1]; exact nx2) (by rw [v1]; exact Or.inr ⟨by omega, hc2⟩) hops2 (by rw [hlen]; omega)
            rw [v1] at d2
            refine Or.inr ⟨1, q', τ7, s6, ?_, m4.after he6, ?_, (y1.trans a1').trans (w1.trans d1), ⟨(y2.tr a2).tr (w2.tr d2.1), d2.2⟩, by omega, by omega⟩
            · exact st_bind u1 (st_t rfl (st_bind pe (st_bind m3 (st_f n_10 rfl))))
            · unfold rmo at *
              rw [m5, hN6]
              omega
        · refine Or.inr ⟨kd, pl, τ5, s5, st_bind u1 (st_f n_10 rfl), u2.after heP, ?_, (y1.trans a1').trans u4, ⟨(y2.tr a2).tr u5.1, u5.2⟩, u6⟩
          unfold rmo at *
          omega
      · obtain ⟨τ3, m1, m2, m3⟩ := must_f x3 (c := 44) (by omega) (by rw [hq']; exact hc)
        rw [hq'] at m2
        obtain ⟨s3, a1', a2⟩ := A_bad (k := k) (was := was) (fl := fl'') (fo := fo'') y3 (by rw [List.length_append]; omega) (by rw [hlen]; omega) (by rw [z1]; exact nx) (by rw [z1]; exact Or.inl ⟨by omega, hc⟩) hops (by rw [hlen]; omega)
        rw [z1] at a2
        refine Or.inr ⟨1, p', τ3, s3, ?_, m2.after x2, ?_, y1.trans a1', ⟨y2.tr a2.1, a2.2⟩, by omega, by omega⟩
        · exact st_bind x1 (st_t rfl (st_bnd (st_bnd (st_f ha1 (st_bind m1 (st_f n_10 rfl))))))
        · unfold rmo at *
          rw [m3]
          omega
  · refine Or.inr ⟨kd, pl, τ2, s2, st_bind x1 (st_f n_10 rfl), x2, ?_, x4, x5, x6⟩
    unfold rmo at *
    omega
end
