set_option maxRecDepth 100000
/-! LAYER 2: both read a test -/
section
variable {T : Int → Int} {n : Int} {fl : Bool}
theorem DT_pos (o : Int) : ∃ d, DT o = d + 1 := ⟨_, rfl⟩
theorem DT_s {o : Int} (h : o < 6) : DT (o + 1) + 2 = DT o := by unfold DT; omega
theorem fact_step {r : Int} (ih : FactOK T n fl r) : FactOK T n fl (r + 1) := by
  intro kx p pm o τ s C W rs k fo hr hpm hkx hG ho hcx hQ hs hW10 hrs hlo hl hfo
  have ho6 := hQ.2.2.2.2.1
  have hp := hG.2.2.2.2.1
  have hn := hG.1.1
  have hle := rn_le (q := qB) (T := T) (n := n) p
  have hsk := sk_b hG
  have htk := tkf_b fl
  have hFU := FU_ge
  have hlen : (W ++ rs.reverse).length = W.length + rs.length := by simp
  have hal := hG.2.2.2.2.2.1
  have hN := hal.1
  obtain ⟨hT10, hT14, hT34⟩ := w_tops hW10 hrs
  obtain ⟨kx, rfl⟩ : ∃ g, kx = g + 1 := ⟨kx - 1, by omega⟩
  obtain ⟨fo, rfl⟩ : ∃ g, fo = g + 2 := ⟨fo - 2, by omega⟩
  have hG1 := hG.to hsk
  have ho1 : ux τ 7 2 (rn qB T n p) 7 4 = o := by rw [ux_i _ _ _ _ (by decide)]; exact ho
  have hcx1 : ux τ 7 2 (rn qB T n p) 7 5 = ctx fl := by rw [ux_i _ _ _ _ (by decide)]; exact hcx
  have he1 : ext τ (ux τ 7 2 (rn qB T n p)) := ext.rf.u7 (Or.inl rfl)
  have hN1 : ux τ 7 2 (rn qB T n p) (-1) = τ (-1) := ux_cell (by decide)
  have hb0 := bA_b hG.1 (rn qB T n p)
  have hwl := wlq_b (T := T) hp.2
  show FactR T n fl (x2_fact_B (x2_fact kx) τ) τ p o (mTf k (fo + 2) s) s C W rs k
  by_cases c91 : bA T n (rn qB T n p) = 91
  · have hin := bA_at (T := T) (n := n) (p := rn qB T n p) (by omega)
    by_cases h6 : o = 6
    · obtain ⟨s', a1, a2⟩ := T_sq6 (k := k) (fo := fo) hQ (by omega) (by rw [hpm]; exact c91) h6
      rw [hpm] at a2
      have op := opens_t (τ := ux τ 7 2 (rn qB T n p)) (pl := rn qB T n p) (by rw [ho1]; exact h6)
      refine Or.inr ⟨4, rn qB T n p, ux (ux (ux τ 7 2 (rn qB T n p)) 8 6 4) 8 7 (rn qB T n p), s', ?_, xB.mk' he1 hG1.2.2.2.2.2.1 4 _, ?_, a1, a2.w, by omega, by omega⟩
      · unfold x2_fact_B
        refine st_bind (here_ev hG) (st_t (by rw [c91]) (st_bind (z := (1, 0, ux (ux (ux τ 7 2 (rn qB T n p)) 8 6 4) 8 7 (rn qB T n p))) ?_ (st_f n_10 rfl)))
        show x2_opens (ux τ 7 2 (rn qB T n p) 7 2) _ = _
        rw [ux_s]; exact op
      · unfold rmo; rw [u8_N, u8_N, u8_N, u8_N, hN1]; omega
    · obtain ⟨s1, a1, a2, a3⟩ := T_sq (k := k) (fo := fo + 1) hQ (by rw [hlen]; omega) (by rw [hpm]; exact c91) (by omega)
      rw [hpm] at a3
      have op := opens_f (τ := ux τ 7 2 (rn qB T n p)) (pl := rn qB T n p) (by rw [ho1]; omega)
      rw [ho1] at op
      have hG3 := (hG1.opn (o + 1)).to (q := rn qB T n p + 1) (by omega)
      obtain ⟨τ3, e3⟩ : ∃ t, ux (ux (ux τ 7 2 (rn qB T n p)) 7 4 (o + 1)) 7 2 (rn qB T n p + 1) = t := ⟨_, rfl⟩
      have he3 : ext τ τ3 := by rw [← e3]; exact (he1.u7 (Or.inr (Or.inr rfl))).u7 (Or.inl rfl)
      have hN3 : τ3 (-1) = τ (-1) := by rw [← e3, ux_cell (by decide), ux_cell (by decide), hN1]
      have h74 : τ3 7 4 = o + 1 := by rw [← e3, ux_i _ _ _ _ (by decide), ux_s]
      have h75 : τ3 7 5 = ctx fl := ctx_ext he3 hcx
      rw [e3] at hG3
      have hle1 := rn_le (q := qB) (T := T) (n := n) (rn qB T n p + 1)
      have hlen2 : (W ++ rs.reverse ++ [25]).length = W.length + rs.length + 1 := by simp; omega
      have hat := test_ok ih kx (rn qB T n p + 1) (rn qB T n p + 1) (o + 1) τ3 s1 C (W ++ rs.reverse ++ [25]) k (fo + 1) (by omega) rfl (by omega) hG3 h74 h75 a3 (Or.inr ⟨_, 25, rfl, by decide, by decide⟩) (Or.inr ⟨_, 25, rfl, by decide⟩) (Or.inr ⟨_, 25, rfl, by decide⟩) (by
        intro y hy
        rcases List.mem_append.mp hy with hy | hy
        · exact hT10 y hy
        · rw [List.mem_singleton.mp hy]; omega) (by rw [hlen2]; omega) (by omega)
      have hXs : ∀ Z, x2_test (x2_fact kx) τ3 = some Z → ∀ R, (if Z.1 = 0 then Option.bind (x2_must 93 Z.2.2) (fun z47 => if z47.1 = 0 then bnd (ux z47.2.2 7 4 ((z47.2.2 7 4) - 1)) fun s49 => some (0, Z.2.1, s49) else some (1, 0, z47.2.2)) else some (1, 0, Z.2.2)) = R → x2_fact_B (x2_fact kx) τ = R := by
        intro Z hZ R hR
        unfold x2_fact_B
        refine st_bind (here_ev hG) (st_t (by rw [c91]) (st_bind (z := (0, 0, ux (ux τ 7 2 (rn qB T n p)) 7 4 (o + 1))) ?_ (st_t rfl (st_bnd ?_))))
        · show x2_opens (ux τ 7 2 (rn qB T n p) 7 2) _ = _
          rw [ux_s]; exact op
        · show Option.bind (x2_test (x2_fact kx) (ux (ux (ux τ 7 2 (rn qB T n p)) 7 4 (o + 1)) 7 2 (ux (ux τ 7 2 (rn qB T n p)) 7 4 (o + 1) 7 2 + 1))) _ = _
          rw [ux_i _ _ _ _ (show (2 : Int) ≠ 4 by decide), ux_s, e3]
          exact st_bind hZ hR
      rcases hat with ⟨p', pm', c, τ4, s2, D, ops, gl, go, x1, ⟨x2, x3, x4, x5⟩, ⟨z1, z2, z3, z4⟩, x7, ⟨y1, y2, y3⟩, x8, o1, ⟨nx1, nx2⟩, x9, x10⟩ | ⟨kd, pl, τ4, s2, x1, x2, x3, x4, x5, x6⟩ | ⟨q, τ4, s2, Cx, Wx, ox, x1, x2, x3, x4, x5, x6, x7⟩
      · have hp' := x3.2.2.2.2.1
        have hsk' := sk_b x3
        have hwl' := wlq_b (T := T) hp'.2
        have hle' := rn_le (q := qB) (T := T) (n := n) p'
        obtain ⟨gl, rfl⟩ : ∃ g, gl = g + 1 := ⟨gl - 1, by omega⟩
        by_cases hc : bA T n (rn qB T n p') = 93
        · have hin' := bA_at (T := T) (n := n) (p := rn qB T n p') (by omega)
          obtain ⟨m1, m2⟩ := must_t x3 (c := 93) (by omega) hc
          obtain ⟨s3, d1, d2, d3⟩ := U_close (k := k) (fl := gl) (fo := go) y3 (by rw [List.length_append]; omega) (by rw [z1]; exact hc) (fun y hy => by have := o1 y hy; omega) hs hrs (by omega) (by omega)
          rw [z1, show o + 1 - 1 - (rs.length : Int) = o - rs.length by omega] at d3
          have hqL : qL (bA T n (rn qB T n p')) = false := by rw [hc]; rfl
          have hw0 : wlq T n p' = 0 := by unfold wlq; rw [rn_stop hqL]; omega
          have e4 : ux τ4 7 2 (rn qB T n p' + 1) 7 4 = o + 1 := by rw [ux_i _ _ _ _ (by decide)]; exact x4
          have hN' : ux (ux τ4 7 2 (rn qB T n p' + 1)) 7 4 o (-1) = τ4 (-1) := by rw [ux_cell (by decide), ux_cell (by decide)]
          refine Or.inl ⟨D ++ ops, rn qB T n p' + 1, c, ux (ux τ4 7 2 (rn qB T n p' + 1)) 7 4 o, s3, gl, go, ?_, ⟨((he3.tr x2).u7 (Or.inl rfl)).u7 (Or.inr (Or.inr rfl)), m2.opn o, by rw [ux_s], ?_⟩, by omega, ?_, ⟨a1.trans (y1.trans d1), a2.tr (y2.tr d2), by rw [← List.append_assoc]; exact d3⟩, by rw [List.length_append]; omega, by omega, by omega⟩
          · refine hXs _ x1 _ (st_t rfl (st_bind m1 (st_t rfl (st_bnd ?_))))
            show some (0, c, ux (ux τ4 7 2 (rn qB T n p' + 1)) 7 4 (ux τ4 7 2 (rn qB T n p' + 1) 7 4 - 1)) = _
            rw [e4, show o + 1 - 1 = o by omega]
          · rw [hN', ← DT_s (show o < 6 by omega)]
            refine XT_kept (fun y hy => ?_) (fun y hy => ?_) _ _ _ x5
            · unfold rg at hy
              rw [hN3] at hy
              rw [ux_cell (by omega), ux_cell (by omega)]
            · rw [hN3] at hy; exact hy
          · unfold rmo at *
            rw [hN']
            rw [hN3] at x7
            omega
        · obtain ⟨τ5, m1, m2, m3⟩ := must_f x3 (c := 93) (by omega) hc
          obtain ⟨go, rfl⟩ : ∃ g, go = g + 1 := ⟨go - 1, by omega⟩
          obtain ⟨-, u2⟩ := U_off (k := k) (fl := gl) (fo := go) y3 (by rw [List.length_append]; omega) (by rw [List.length_append, hlen2, List.length_reverse]; omega) (by rw [z1]; exact nx1) (by rw [z1]; exact nx2)
          obtain ⟨s3, d1, d2⟩ := u2 (by simp) (by rw [z1]; exact hc)
          rw [z1] at d2
          refine Or.inr ⟨1, rn qB T n p', τ5, s3, hXs _ x1 _ (st_t rfl (st_bind m1 (st_f n_10 rfl))), m2.after (he3.tr x2), ?_, a1.trans (y1.trans d1), ⟨a2.tr (y2.tr d2.1), d2.w.2⟩, by omega, by omega⟩
          unfold rmo at *
          rw [m3]
          rw [hN3] at x7
          omega
      · refine Or.inr ⟨kd, pl, τ4, s2, hXs _ x1 _ (st_f n_10 rfl), x2.after he3, ?_, a1.trans x4, ⟨a2.tr x5.1, x5.2⟩, x6⟩
        unfold rmo at *
        rw [hN3] at x3
        omega
      · exact absurd (by simp) x6
  · -- no bracket
    have hh91 : ¬ i32 (bA T n (rn qB T n p)) = i32 91 := ne32 (by omega) (by omega) c91
    rcases passes_all hG1 (q := (132, [110, 111, 116])) (by decide) with ⟨c1, c2, τ1, b1, b2, b3⟩ | ⟨hw, τ1, b1, b2, b3, b4, b5, b6⟩ | ⟨hw, hpd, p1, τ1, b1, b2, b3, ⟨b4, b5, b6⟩, b7, b8⟩
    · -- a word runs on
      rw [sk_sk] at c1 c2 b2
      obtain ⟨s1, t1, t2, -, t4⟩ := T_fact (k := k) hQ (by rw [hpm]; exact c91) (by rw [hpm]; exact hereW_pd c2 _)
      rw [hpm] at t2
      obtain ⟨s2, f1, f2, f3⟩ := qFact_sum t2 (by rw [sk_sk]; exact hereW_pd c2 _)
      rw [sk_sk] at f2
      obtain ⟨s3, g1, g2⟩ := qSums_bad f2 htk (by rw [hlen]; omega) (by rw [sk_sk]; rw [qL_t] at c1; omega) (by rw [sk_sk]; unfold wcA; rw [if_neg (by rw [c2]; simp)]) (by rw [sk_sk]; rw [qL_t] at c1; rw [qD_f]; omega)
      rw [sk_sk] at g2
      have hf : m_qFact s1 = some (0, s3) := by rw [f3]; exact st_bind g1 (kFa_bad g2.2.1 (by omega))
      refine Or.inr ⟨1, rn qB T n p, τ1, s3, ?_, b2.after he1, ?_, t4 fo s3 1 hf g2.2.1 (by omega), ⟨((t1.mono (by decide)).tr (f1.mono (by decide))).tr g2.1, g2.w.2⟩, by omega, by omega⟩
      · unfold x2_fact_B
        exact st_bind (here_ev hG) (st_f hh91 (st_bind b1 (st_f n_10 rfl)))
      · unfold rmo at *
        rw [hN1] at b3
        omega
    · -- not
      rw [sk_sk] at hw b3 b4
      have hwe := wlq_sk (T := T) (n := n) p
      rw [hwe] at b6
      have hc1 := (hereW_at hw).1
      have hr' := rn_hi (q := qL) (T := T) qL_1 hsk.2
      have hw3 : wlq T n p = 3 := by
        have := ((wdl_eq (rn_le (q := qL) (T := T) (n := n) (rn qB T n p))).mp (hereW_at hw).2.2).1
        unfold wlq
        rw [this]; rfl
      have hwr : rn qL T n (rn qB T n p) = rn qB T n p + 3 := by unfold wlq at hw3; omega
      have ho2 : τ1 7 4 = o := by rw [b5]; exact ho1
      have hal1 := b3.2.2.2.2.2.1
      have hNa := hal1.1
      have hSa := hal1.2.1
      by_cases h6 : o = 6
      · obtain ⟨s', a1, a2⟩ := T_not6 (k := k) (fo := fo) hQ (by omega) (by rw [hpm]; exact hw) h6
        rw [hpm] at a2
        have op := opens_t (τ := τ1) (pl := rn qB T n p) (by rw [ho2]; exact h6)
        refine Or.inr ⟨4, rn qB T n p, ux (ux τ1 8 6 4) 8 7 (rn qB T n p), s', ?_, xB.mk' (he1.tr b2) hal1 4 _, ?_, a1, a2.w, by omega, by omega⟩
        · unfold x2_fact_B
          refine st_bind (here_ev hG) (st_f hh91 (st_bind b1 (st_t rfl (st_f n10 (st_bind (z := (1, 0, ux (ux τ1 8 6 4) 8 7 (rn qB T n p))) ?_ (st_f n_10 rfl))))))
          show x2_opens (τ1 7 3) τ1 = _
          rw [b4]; exact op
        · unfold rmo at *
          rw [u8_N, u8_N, u8_N, u8_N]
          rw [hN1] at b6
          omega
      · obtain ⟨s1, a1, a2, a3⟩ := T_not (k := k) (fo := fo + 1) hQ (by rw [hlen]; omega) (by rw [hpm]; exact hw) (by omega)
        rw [hpm] at a3
        have op := opens_f (τ := τ1) (pl := rn qB T n p) (by rw [ho2]; omega)
        rw [ho2] at op
        have hG4 := b3.opn (o + 1)
        have hal4 := hG4.2.2.2.2.2.1
        have e4 : ux τ1 7 4 (o + 1) (-1) = τ1 (-1) := ux_cell (by decide)
        obtain ⟨τ5, n1, n2, n3, n4, n5, n6, n7, n8⟩ := newOb_ev (τ0 := τ1) hal4 (ext.rf.u7 (Or.inr (Or.inr rfl))) 12 1 (by omega)
        rw [e4] at n4 n5 n6 n7
        have n77 : τ5 7 = ux τ1 7 4 (o + 1) 7 := n7 7 (by omega) (by omega)
        have hG5 : xG T n τ5 (rn qL T n (rn qB T n p)) := hG4.of n8 n2 (by rw [n77]; exact hG4.2.2.2.1) b3.2.2.2.2.1
        have hle2 := rn_le (q := qB) (T := T) (n := n) (rn qL T n (rn qB T n p))
        have hat := ih kx (rn qL T n (rn qB T n p)) (rn qL T n (rn qB T n p)) (o + 1) τ5 s1 C W (12 :: rs) k (fo + 1) (by omega) rfl (by omega) hG5 (by rw [n77, ux_s]) (by rw [n77, ux_i _ _ _ _ (by decide)]; exact ctx_ext b2 hcx1) (by rw [List.reverse_cons, ← List.append_assoc]; exact a3) hs hW10 (by
          intro y hy
          rcases List.mem_cons.mp hy with rfl | hy
          · rfl
          · exact hrs y hy) (by rw [List.length_cons]; omega) (by rw [List.length_cons]; omega) (by omega)
        have hXs : ∀ Z, x2_fact kx τ5 = some Z → ∀ R, (if Z.1 = 0 then Option.bind (x14_init true (τ1 (-1) 0) Z.2.1 Z.2.2) (fun z38 => bnd (τ1 (-1) 0) fun x1_39 => bnd (ux z38.2 7 4 ((z38.2 7 4) - 1)) fun s40 => some (0, x1_39, s40)) else some (1, 0, Z.2.2)) = R → x2_fact_B (x2_fact kx) τ = R := by
          intro Z hZ R hR
          have nn : 0 ≤ ux τ1 7 4 (o + 1) (-1) 0 ∧ 0 ≤ ux τ1 7 4 (o + 1) (-1) 1 := by rw [e4]; omega
          unfold x2_fact_B
          refine st_bind (here_ev hG) (st_f hh91 (st_bind b1 (st_t rfl (st_f n10 (st_bind (z := (0, 0, ux τ1 7 4 (o + 1))) ?_ (st_t rfl (st_gd nn (st_bnd ?_))))))))
          · show x2_opens (τ1 7 3) τ1 = _
            rw [b4]; exact op
          · rw [show nwx ((0, 0, ux τ1 7 4 (o + 1)) : RX).2.2 12 0 1 (dfl 12) = τ5 from n1]
            rw [show ((0, 0, ux τ1 7 4 (o + 1)) : RX).2.2 (-1) = τ1 (-1) from e4]
            exact st_bind hZ hR
        have hNle := (he1.tr b2).1.1
        rcases hat with ⟨cs, p', x, τ6, s2, gl, go, x1, ⟨x2, x3, x4, x5⟩, x6, x7, ⟨z1, z2, z3⟩, x8, x9, x10⟩ | ⟨kd, pl, τ6, s2, x1, x2, x3, x4, x5, x6⟩
        · have xr := XT_dyn x5
          unfold rg at xr
          rw [n5] at xr
          have e6 : τ6 (τ1 (-1) 0) = τ5 (τ1 (-1) 0) := x2.2.2.1 _ (by omega) (by omega) (by omega) (by omega)
          have t6 : τ6 (τ1 (-1) 0) (-1) = 12 := by rw [e6]; exact n4
          have g0 := tgf (τ := τ6) (t := 12) (new_fre hNa) t6
          have hi : x14_init true (τ1 (-1) 0) x τ6 = some (0, ux τ6 (τ1 (-1) 0) 0 x) := by
            unfold x14_init x12_init
            simp (disch := omega) only [gd_t, gd_T, gd_ok, not_false_eq_true, eq_self, bnd_r, bind_s, ite_t, ite_n, ite_T, ite_F, i32_id, g0, fre_nf (new_fre (show 1514 ≤ x by omega))]
          obtain ⟨τ7, e7⟩ : ∃ t, ux τ6 (τ1 (-1) 0) 0 x = t := ⟨_, rfl⟩
          rw [e7] at hi
          have f7 : ∀ y, y ≠ τ1 (-1) 0 → τ7 y = τ6 y := fun y hy => by rw [← e7, ux_cell hy]
          have al7 : al τ7 := by rw [← e7]; exact x3.2.2.2.2.2.1.u (by omega) (by omega)
          have he7 : ext τ τ7 := by
            have h1 : ext τ τ6 := ((he1.tr b2).tr n3).tr x2
            rw [← e7]; exact h1.un hNle hNa
          have h77 : τ7 7 = τ6 7 := f7 _ (by omega)
          have hN7 : ux τ7 7 4 o (-1) = τ6 (-1) := by rw [ux_cell (by decide), f7 _ (by omega)]
          have hG7 : xG T n τ7 p' := hG.of he7 al7 (by rw [h77]; exact x3.2.2.2.1) x3.2.2.2.2.1
          refine Or.inl ⟨cs ++ [12], p', τ1 (-1) 0, ux τ7 7 4 o, s2, gl, go, ?_, ⟨he7.u7 (Or.inr (Or.inr rfl)), hG7.opn o, by rw [ux_s], ?_⟩, by omega, ?_, ⟨a1.trans z1, a2.tr z2, ?_⟩, by simp; omega, x9, x10⟩
          · refine hXs _ x1 _ (st_t rfl (st_bind hi (st_bnd (st_bnd ?_))))
            show some (0, τ1 (-1) 0, ux τ7 7 4 (τ7 7 4 - 1)) = _
            rw [h77, x4, show o + 1 - 1 = o by omega]
          · rw [hN7]
            have hcell : ∀ y, 1514 ≤ y → ux τ7 7 4 o y = τ7 y := fun y hy => ux_cell (by omega)
            rw [← DT_s (show o < 6 by omega)]
            have hNle2 := x2.1.1
            rw [n5] at hNle2
            refine XT_mono _ _ _ ⟨by unfold rg; omega, Or.inr (Or.inr (Or.inl ?_))⟩
            rw [hcell _ hNa]
            have p0 : τ7 (τ1 (-1) 0) 0 = x := by rw [← e7, ux_s]
            have p3 : τ7 (τ1 (-1) 0) (-1) = 12 := by rw [← e7, ux_i _ _ _ _ (by decide)]; exact t6
            rw [p0]
            refine ⟨p3, cs, ?_, rfl⟩
            refine XT_kept (fun y hy => ?_) (fun y hy => ?_) _ _ _ x5
            · unfold rg at hy
              rw [n5] at hy
              rw [hcell y (by omega), f7 y (by omega)]
            · unfold rg at *; omega
          · unfold rmo at *
            rw [hN7]
            rw [hN1] at b6
            omega
          · rw [List.length_cons] at z3
            rw [show o + 1 - ((rs.length + 1 : Nat) : Int) = o - rs.length by omega] at z3
            simpa [List.append_assoc] using z3
        · refine Or.inr ⟨kd, pl, τ6, s2, hXs _ x1 _ (st_f n_10 rfl), x2.after ((he1.tr b2).tr n3), ?_, a1.trans x4, ⟨a2.tr x5.1, x5.2⟩, x6⟩
          unfold rmo at *
          rw [hN1] at b6
          omega
    · rw [sk_sk] at hw hpd b5 b6
      have hp1 : p1 = rn qB T n p := by omega
      subst hp1
      have hwe := wlq_sk (T := T) (n := n) p
      rw [hwe] at b8
      have ho2 : τ1 7 4 = o := by rw [b7]; exact ho1
      obtain ⟨s1, t1, t2, t3, t4⟩ := T_fact (k := k) hQ (by rw [hpm]; exact c91) (by rw [hpm]; exact hw)
      rw [hpm] at t2
      rcases passes_all b3 (q := (133, [97, 108, 108])) (by decide) with ⟨c1, c2, -⟩ | ⟨hw2, τ2, d1, d2, d3, d4, d5, d6⟩ | ⟨hw2, hpd2, p2, τ2, d1, d2, d3, ⟨d4, d5, d6⟩, d7, d8⟩
      · rw [sk_sk] at c1 c2
        rw [hpd c1] at c2; cases c2
      · -- all
        rw [sk_sk] at hw2 d3 d4
        rw [hwe] at d6
        have hc1 := (hereW_at hw2).1
        have hr' := rn_hi (q := qL) (T := T) qL_1 hsk.2
        have hr2 := rn_lt (q := qL) (T := T) (n := n) qL_1 hc1
        have hw3 : wlq T n p = 3 := by
          have := ((wdl_eq (rn_le (q := qL) (T := T) (n := n) (rn qB T n p))).mp (hereW_at hw2).2.2).1
          unfold wlq
          rw [this]; rfl
        have hwr : rn qL T n (rn qB T n p) = rn qB T n p + 3 := by unfold wlq at hw3; omega
        have hal2 := d3.2.2.2.2.2.1
        have hNa := hal2.1
        have hSa := hal2.2.1
        obtain ⟨τ5, n1, n2, n3, n4, n5, n6, n7, n8⟩ := newOb_ev (τ0 := τ) hal2 ((he1.tr b2).tr d2) 13 0 (by omega)
        have n77 : τ5 7 = τ2 7 := n7 7 (by omega) (by omega)
        have hNle := ((he1.tr b2).tr d2).1.1
        obtain ⟨s2, f1, f2, f3⟩ := qFact_all t2 (by omega) (by rw [sk_sk]; exact hw2)
        rw [sk_sk] at f3
        obtain ⟨s3, g1, g2, g3⟩ := qNots_ev hs hrs hlo (by rw [List.length_append, List.length_singleton]; omega) f3 (by omega)
        refine Or.inl ⟨[13], rn qL T n (rn qB T n p), τ2 (-1) 0, τ5, s3, FU, fo + 1, ?_, ⟨n3, hG.of n3 n2 (by rw [n77]; exact d3.2.2.2.1) d3.2.2.2.2.1, by rw [n77, d5]; exact ho2, ?_⟩, hr2, ?_, ⟨t3 (fo + 1) s2 s3 f1 g1 g3.b5, ((t1.mono (by decide)).tr f2).tr g2, g3⟩, by simp; omega, by omega, by omega⟩
        · unfold x2_fact_B
          refine st_bind (here_ev hG) (st_f hh91 (st_bind b1 (st_t rfl (st_t i32_0 (st_bind d1 (st_t rfl (st_f n10 (st_gd (show 0 ≤ τ2 (-1) 0 ∧ 0 ≤ τ2 (-1) 1 from ⟨by omega, hSa⟩) (st_bnd ?_)))))))))
          rw [show nwx ((0, 1, τ2) : RX).2.2 13 0 0 (dfl 13) = τ5 from n1]
          unfold x15_init x12_init
          exact st_bind (st_bind rfl rfl) rfl
        · obtain ⟨d, hd⟩ := DT_pos o
          rw [hd]
          exact ⟨by unfold rg; omega, Or.inl ⟨n4, rfl⟩⟩
        · unfold rmo at *
          rw [hN1] at b8
          omega
      · -- two sums
        rw [sk_sk] at hw2 d5 d6
        have hp2 : p2 = rn qB T n p := by omega
        subst hp2
        rw [hwe] at d8
        obtain ⟨s2, f1, f2, f3⟩ := qFact_sum t2 (by rw [sk_sk]; exact hw2)
        rw [sk_sk] at f2
        have ho3 : τ2 7 4 = o := by rw [d7]; exact ho2
        have hcm := cmp_ok (fl := fl) (rn qB T n p) (rn qB T n p) o τ2 s2 C (W ++ rs.reverse) rfl d3 ho3 (ctx_ext d2 (ctx_ext b2 hcx1)) f2 hT14 hT34 (by rw [hlen, sk_sk]; omega) (X := x2_fact_B (x2_fact kx) τ) (by
          unfold x2_fact_B
          exact st_bind (here_ev hG) (st_f hh91 (st_bind b1 (st_t rfl (st_t i32_0 (st_bind d1 (st_t rfl (st_t i32_0 rfl))))))))
        have he2 := (he1.tr b2).tr d2
        have hNle := he2.1.1
        rcases hcm with ⟨cs, p', c, τ3, s3, x1, ⟨x2, x3, x4, ⟨x5, x5', cs1, cs2, w1, w2, w3, w4⟩⟩, x6, x7, ⟨y1, y2, y3⟩, x8, xw⟩ | ⟨kd, pl, τ3, s3, x1, x2, x3, x4, x5, x6⟩
        · rw [wlq_sk, sk_sk] at xw
          rw [sk_sk] at x6 x8
          have hp' := x3.2.2.2.2.1
          obtain ⟨s4, g1, g2, g3⟩ := qNots_ev hs hrs hlo (by rw [List.length_append]; omega) y3 (by omega)
          have hmo : ∀ y, rg (τ2 (-1) 0) (τ3 (-1) 0) y → rg (τ (-1) 0) (τ3 (-1) 0) y := fun y hy => by unfold rg at *; omega
          refine Or.inl ⟨cs, p', c, τ3, s4, FU, fo + 1, x1, ⟨he2.tr x2, x3, x4, ?_⟩, x6, ?_, ⟨t3 (fo + 1) s3 s4 (by rw [f3]; exact y1) g1 g3.b5, (((t1.mono (by decide)).tr (f1.mono (by decide))).tr y2).tr g2, g3⟩, x8, by omega, by omega⟩
          · obtain ⟨d, hd⟩ := DT_pos o
            rw [hd]
            have hdd : Dd o + 2 ≤ 21 := by unfold Dd; omega
            exact ⟨hmo _ x5, Or.inr (Or.inl ⟨x5', cs1, cs2, XV_more hmo _ _ _ (XV_le hdd w1), XV_more hmo _ _ _ (XV_le hdd w2), w3, w4⟩)⟩
          · unfold rmo at *
            rw [hN1] at b8
            omega
        · refine Or.inr ⟨kd, pl, τ3, s3, x1, x2.after he2, ?_, t4 fo s3 kd (by rw [f3]; exact x4) x5.2.1 x6, ⟨((t1.mono (by decide)).tr (f1.mono (by decide))).tr x5.1, x5.2⟩, x6⟩
          unfold rmo at *
          rw [hN1] at b8
          omega
end
