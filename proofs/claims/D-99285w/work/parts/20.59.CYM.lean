set_option maxRecDepth 100000
/-! LAYER 2: one statement of a country, joined -/
section
variable {T : Int → Int} {n p q : Int} {τb τ τ' : XS} {s s' s0 : MS} {c : Int}
theorem stat_ok {es fs : List Int} {ws vs : List (List Int)} (hL : LpI T n τb c q τ s es fs ws vs) (hq : rn qB T n q = q) (hb6 : τb 7 6 = c) : ItR T n τb c q τ s (fun K => xBd K τ) (m_statementTold s) := by
  obtain ⟨⟨hG, hb, h4⟩, hM, hC, h44, hcb⟩ := hL
  have hal := hG.2.2.2.2.2.1
  have hp := hG.2.2.2.2.1
  have h72 := hG.2.2.2.1
  have h6 : τ 7 6 = c := by rw [hb.2.2.2 6 (by decide) (by decide) (by decide) (by decide)]; exact hb6
  have c0 := hC.1.1.1
  have hF := hC.2.2.2.1.1
  have nn : ¬ τ 7 6 = -1 := by omega
  have tc : tg true τ (τ 7 6) = 2 := by rw [h6]; exact tgf (t := 2) (new_fre c0) hC.1.1.2
  have bd : 0 ≤ τ 7 6 ∧ ¬ (1438 ≤ τ 7 6 ∧ τ 7 6 < 1514) := by rw [h6]; omega
  by_cases h80 : s 45 0 = 80
  · refine Or.inr ⟨ux (ux τ 8 6 5) 8 7 q, up (up s 5 0 5) 6 0 q, fun K => ?_, ?_, 5, q, (xB.mk' ext.rf hal 5 q).exc hb, ?_, ⟨(stk.of (mB.up (k := 5) (pl := q) (s0 := s) (ks := []) only.rf (by decide)).1 (by decide)), ?_, ?_⟩, by decide, by decide⟩
    · refine st_gd nn (st_gd tc (st_bnd (st_t ?_ (st_bind most_t (st_f n_10 ?_)))))
      · rw [h6, hF.1, h80]; rfl
      · rw [h72]
    · unfold m_statementTold
      refine st_bnd (st_t (by rw [h80]) (st_bind (m_fail_ev hM.2.2.2.2.1) ?_))
      rw [hM.2.2.2.1]
    · unfold rmo
      rw [u8_N, u8_N, u8_N, u8_N]
      omega
    · rw [up_row (by decide), up_s]
    · rw [up_s]
  have g80 : ¬ i32 (s 45 0) = i32 80 := by rw [i32_id (by omega) (by omega), i32_id (by omega) (by omega)]; exact h80
  have x80 : ¬ i32 (τ (τ 7 6) 0) = i32 80 := by rw [h6, hF.1, Int.add_zero]; exact g80
  obtain ⟨τ1, e1⟩ : ∃ τ1, ux τ c 0 (τ c 0 + 1) = τ1 := ⟨_, rfl⟩
  have e1' : ux τ (τ 7 6) 0 (τ (τ 7 6) 0 + 1) = τ1 := by rw [h6]; exact e1
  have C1 : CYR τ1 s c 1 es fs ws vs := by rw [← e1]; exact hC.d1 hal h80
  have G1 : xG T n τ1 q := by rw [← e1]; exact hG.wr hC.1.1 (by decide)
  have X1 : exc τb τ1 := by rw [← e1]; exact hb.un hcb.1 c0
  have L1 : lsb τb τ1 c := by rw [← e1]; exact hcb.wr hC.1 (by decide)
  have f7 : τ1 7 = τ 7 := by rw [← e1]; exact ux_cell (by omega)
  have fN : τ1 (-1) = τ (-1) := by rw [← e1]; exact ux_cell (by omega)
  have al1 := G1.2.2.2.2.2.1
  by_cases hw : qL (bA T n q) = true ∧ pd T n q = false
  · obtain ⟨a, τ2, w1, w2, w3, w4, w5, w6, w7, w8, w9, w10⟩ := word_evA G1 (by rw [hq]; exact hw.1) (by rw [hq]; exact hw.2)
    rw [hq] at w2 w5 w6 w8
    obtain ⟨w, ew⟩ : ∃ w, wrd T n q = w := ⟨_, rfl⟩
    have hlt := rn_lt (p := q) qL_1 hw.1
    have wl : 1 ≤ w.length := by rw [← ew]; unfold wrd; rw [wdl_len]; omega
    obtain ⟨r, er⟩ : ∃ r, rn qL T n q = r := ⟨_, rfl⟩
    rw [er] at w5 w8 hlt
    rw [ew] at w2
    have hr := w5.2.2.2.2.1
    have a0 : 1514 ≤ a := by have := al1.1; omega
    have al2 := w5.2.2.2.2.2.1
    obtain ⟨τ3, y1, y2, y3, y4⟩ := named_sw (pl := τ2 7 3) w2 a0 (Or.inl ⟨w9, w10⟩) wl w5
    have hH : ∀ a, hereW T n q (wo a) = decide (w = wo a) := fun a => by rw [hereW_wd hw.1 hw.2, ew]
    have e3 : ext τ1 τ3 := w4.hs y2 w3 a0
    have al3 : al τ3 := al2.hs y2 (y3 (-1) (by decide) (by decide)) a0
    have s3 : strX τ3 a w := by
      refine w2.of2 ⟨y3 _ (by decide) (by decide), y3 _ (by decide) (by decide), y3 _ (by decide) (by decide)⟩ (y2 _ fun e => ?_)
      have := w2.2.2.1.2
      rw [e, w2.1.2] at this
      omega
    have F : ∀ τx, ext τ1 τx → al τx → τx 7 = τ2 7 → ∀ s1, only [2, 4] s s1 → xG T n τx r ∧ exc τb τx ∧ τx 7 4 = 0 ∧ τx 7 6 = c ∧ lsb τb τx c ∧ CYR τx s1 c 1 es fs ws vs ∧ s1 44 0 ≤ r := fun τx b1 b2 b3 s1 b4 => by
      refine ⟨G1.of b1 b2 (by rw [b3]; exact w5.2.2.2.1) hr, X1.ex b1, by rw [b3, w7, f7]; exact h4, ?_, L1.kp al1 C1.1 b1.kps, C1.keep al1 b1 (fun k hk => b4 k (by revert hk; exact (by decide : ∀ k ∈ cyk, k ∉ ([2, 4] : List Nat)) k)), by rw [b4 44 (by decide)]; omega⟩
      rw [b1.2.2.2 6 (by decide) (by decide) (by decide), f7]
      exact h6
    have R3 : rmo 3 (4 + 2 * (r - q)) τ τ3 := by
      unfold rmo at *
      rw [y2 (-1) (by omega), ← fN]
      exact w8
    have p3 : τ3 7 = τ2 7 := y2 7 (by omega)
    have hpl : τ2 7 3 = q := w6
    have hpl3 : τ3 7 3 = q := by rw [p3]; exact w6
    obtain ⟨P3a, P3b, P3c, P3d, P3e, P3f, P3g⟩ := F τ3 e3 al3 p3 s only.rf
    have tn : ∀ a ∈ ([11, 14, 17, 18, 19, 20, 21] : List Nat), ¬ w = wo a → m_takes a s = some (0, s) := fun a ha h => m_takes_n hM hq (ma a ha) (by rw [hH, decide_eq_false h])
    have ty : ∀ a ∈ ([11, 14, 17, 18, 19, 20, 21] : List Nat), w = wo a → ∃ s1, m_takes a s = some (1, s1) ∧ only [2, 4] s s1 ∧ mG T n s1 r := fun a ha h => by
      obtain ⟨s1, b1, b2, b3⟩ := m_takes_t hM (ma a ha) (by rw [hq, hH, decide_eq_true h])
      rw [hq, er] at b3
      exact ⟨s1, b1, b2, b3⟩
    have hbeg : s 2 0 = q := hM.2.2.2.1
    have dn : ∀ (K : XS → Option RX) (k : Int), namK w = k → k ≠ -1 → ∀ z, xN2 q k τ3 = some z → ((z.1 = 0 ∧ z.2.1 = 1) ∨ z = (1, 0, z.2.2)) → xBd K τ = if z.1 = 0 then xMu K z.2.2 else some (1, 0, z.2.2) := fun K k hk hk1 z hz hv => by
      rw [hpl, hk, hz] at y1
      rw [← hpl] at y1
      refine st_gd nn (st_gd tc (st_bnd (st_f x80 (st_bind most_f (st_t rfl (st_gd nn (st_gd tc (st_gd tc (st_gd bd (st_be e1' (st_bind w1 (st_t rfl (st_bnd (st_bind y1 ?_))))))))))))))
      rcases hv with ⟨h1, h2⟩ | h1
      · rw [if_pos h1, if_pos h1]
        exact st_bnd (st_f (by rw [h2]; exact n10) rfl)
      · have : ¬ z.1 = 0 := by rw [h1]; exact n_10
        rw [if_neg this, if_neg this]
    by_cases h11 : w = wo 11
    · obtain ⟨s1, b1, b2, b3⟩ := ty 11 (by decide) h11
      obtain ⟨Q1, Q2, Q3, Q4, Q5, Q6, Q7⟩ := F τ3 e3 al3 p3 s1 b2
      refine ItR.fin (saying_st (pl := q) Q1 b3 Q2 Q3 Q4 Q5 Q6 Q7) ⟨hp.1, hlt, hr.2⟩ R3 (stk.of b2 (by decide)) (fun K z hz hv => dn K 0 (by rw [h11]; decide) (by decide) z hz hv) (fun y hy => ?_)
      unfold m_statementTold
      exact st_bnd (st_f g80 (st_bind b1 (st_bnd (st_f n10 (st_bind (z := y) (by rw [hbeg]; exact hy) rfl)))))
    have t11 := tn 11 (by decide) h11
    by_cases h14 : w = wo 14
    · obtain ⟨s1, b1, b2, b3⟩ := ty 14 (by decide) h14
      obtain ⟨Q1, Q2, Q3, Q4, Q5, Q6, Q7⟩ := F τ3 e3 al3 p3 s1 b2
      refine ItR.fin (verb_st (pl := q) Q1 b3 Q2 Q3 Q4 Q5 Q6 Q7) ⟨hp.1, hlt, hr.2⟩ R3 (stk.of b2 (by decide)) (fun K z hz hv => dn K 1 (by rw [h14]; decide) (by decide) z hz hv) (fun y hy => ?_)
      unfold m_statementTold
      exact st_bnd (st_f g80 (st_bind t11 (st_bnd (st_t i32_0 (st_bind b1 (st_f n10 (st_bind (z := y) (by rw [hbeg]; exact hy) rfl)))))))
    have t14 := tn 14 (by decide) h14
    by_cases h17 : w = wo 17
    · obtain ⟨s1, b1, b2, b3⟩ := ty 17 (by decide) h17
      obtain ⟨Q1, Q2, Q3, Q4, Q5, Q6, Q7⟩ := F τ3 e3 al3 p3 s1 b2
      refine ItR.fin (lent_ok (pl := q) Q1 b3 Q2 Q3 Q4 Q5 Q6 Q7) ⟨hp.1, hlt, hr.2⟩ R3 (stk.of b2 (by decide)) (fun K z hz hv => dn K 2 (by rw [h17]; decide) (by decide) z hz hv) (fun y hy => ?_)
      unfold m_statementTold
      exact st_bnd (st_f g80 (st_bind t11 (st_bnd (st_t i32_0 (st_bind t14 (st_t i32_0 (st_bind b1 (st_f n10 (st_bind (z := y) hy rfl)))))))))
    have t17 := tn 17 (by decide) h17
    have hnk : namK w = -1 := by unfold namK; rw [if_neg h11, if_neg h14, if_neg h17]
    rw [hnk, xN2_no] at y1
    obtain ⟨τ4, v1, v2, v3, v4⟩ := more_sw (pl := τ3 7 3) s3 a0 y4 wl P3a
    have e4 : ext τ1 τ4 := e3.hs v2 w3 a0
    have al4 : al τ4 := al3.hs v2 (v3 (-1) (by decide) (by decide)) a0
    have p4 : τ4 7 = τ2 7 := by rw [v2 7 (by omega)]; exact p3
    have R4 : rmo 3 (4 + 2 * (r - q)) τ τ4 := by
      unfold rmo at *
      rw [v2 (-1) (by omega)]
      exact R3
    have dm : ∀ (K : XS → Option RX) (k : Int) (xe : Option RX), morK w = k → xM2 q k τ4 = xe → ∀ z, xe = some z → xBd K τ = if z.1 = 0 then xMu K z.2.2 else some (1, 0, z.2.2) := fun K k xe hk hx z hz => by
      rw [hpl3, hk, hx, hz] at v1
      rw [← hpl3] at v1
      exact st_gd nn (st_gd tc (st_bnd (st_f x80 (st_bind most_f (st_t rfl (st_gd nn (st_gd tc (st_gd tc (st_gd bd (st_be e1' (st_bind w1 (st_t rfl (st_bnd (st_bind y1 (st_t rfl (st_bnd (st_t i32_0 (st_bind v1 rfl))))))))))))))))))
    by_cases h18 : w = wo 18
    · obtain ⟨s1, b1, b2, b3⟩ := ty 18 (by decide) h18
      obtain ⟨Q1, Q2, Q3, Q4, Q5, Q6, Q7⟩ := F τ4 e4 al4 p4 s1 b2
      refine ItR.fin (lawT_ok (pl := q) Q1 b3 Q2 Q3 Q4 Q5 Q6 Q7) ⟨hp.1, hlt, hr.2⟩ R4 (stk.of b2 (by decide)) (fun K z hz _ => dm K 0 _ (by rw [h18]; decide) rfl z hz) (fun y hy => ?_)
      unfold m_statementTold
      exact st_bnd (st_f g80 (st_bind t11 (st_bnd (st_t i32_0 (st_bind t14 (st_t i32_0 (st_bind t17 (st_t i32_0 (st_bind b1 (st_f n10 (st_bind (z := y) (by rw [hbeg]; exact hy) rfl)))))))))))
    have t18 := tn 18 (by decide) h18
    by_cases h19 : w = wo 19
    · obtain ⟨s1, b1, b2, b3⟩ := ty 19 (by decide) h19
      obtain ⟨Q1, Q2, Q3, Q4, Q5, Q6, Q7⟩ := F τ4 e4 al4 p4 s1 b2
      refine ItR.fin (lawV_ok (pl := q) (i := 7) (Or.inl rfl) rfl Q1 b3 Q2 Q3 Q4 Q5 Q6 Q7) ⟨hp.1, hlt, hr.2⟩ R4 (stk.of b2 (by decide)) (fun K z hz _ => dm K 1 _ (by rw [h19]; decide) (xLV_1 q τ4) z hz) (fun y hy => ?_)
      unfold m_statementTold
      exact st_bnd (st_f g80 (st_bind t11 (st_bnd (st_t i32_0 (st_bind t14 (st_t i32_0 (st_bind t17 (st_t i32_0 (st_bind t18 (st_t i32_0 (st_bind b1 (st_f n10 (st_bind (z := y) (by rw [hbeg]; exact hy) rfl)))))))))))))
    have t19 := tn 19 (by decide) h19
    by_cases h20 : w = wo 20
    · obtain ⟨s1, b1, b2, b3⟩ := ty 20 (by decide) h20
      obtain ⟨Q1, Q2, Q3, Q4, Q5, Q6, Q7⟩ := F τ4 e4 al4 p4 s1 b2
      refine ItR.fin (lawV_ok (pl := q) (i := 8) (Or.inr rfl) rfl Q1 b3 Q2 Q3 Q4 Q5 Q6 Q7) ⟨hp.1, hlt, hr.2⟩ R4 (stk.of b2 (by decide)) (fun K z hz _ => dm K 2 _ (by rw [h20]; decide) (xLV_2 q τ4) z hz) (fun y hy => ?_)
      unfold m_statementTold
      exact st_bnd (st_f g80 (st_bind t11 (st_bnd (st_t i32_0 (st_bind t14 (st_t i32_0 (st_bind t17 (st_t i32_0 (st_bind t18 (st_t i32_0 (st_bind t19 (st_t i32_0 (st_bind b1 (st_f n10 (st_bind (z := y) (by rw [hbeg]; exact hy) rfl)))))))))))))))
    have t20 := tn 20 (by decide) h20
    by_cases h21 : w = wo 21
    · obtain ⟨s1, b1, b2, b3⟩ := m_asks_t hM (a := 21) (by decide) (by rw [hq, hH, decide_eq_true h21])
      rw [hq, er] at b3
      obtain ⟨Q1, Q2, Q3, Q4, Q5, Q6, Q7⟩ := F τ4 e4 al4 p4 s1 b2
      refine ItR.fin (ditch_ok (pl := q) Q1 b3 Q2 Q3 Q4 Q5 Q6 Q7) ⟨hp.1, hlt, hr.2⟩ R4 (stk.of b2 (by decide)) (fun K z hz _ => dm K 3 _ (by rw [h21]; decide) rfl z hz) (fun y hy => ?_)
      unfold m_statementTold
      refine st_bnd (st_f g80 (st_bind t11 (st_bnd (st_t i32_0 (st_bind t14 (st_t i32_0 (st_bind t17 (st_t i32_0 (st_bind t18 (st_t i32_0 (st_bind t19 (st_t i32_0 (st_bind t20 (st_t i32_0 (st_bind b1 ?_)))))))))))))))
      have o41 : ok 4 1 := by decide
      cases hn : m_number 0 100 s1 with
      | none => rw [hn] at hy; cases hy
      | some z =>
        rw [hn] at hy
        rw [bind_s, gd_t o41, bnd_r] at hy ⊢
        cases hy
        rfl
    · have hmk : morK w = -1 := by unfold morK; rw [if_neg h18, if_neg h19, if_neg h20, if_neg h21]
      obtain ⟨s1, b1, b2, b3, b4⟩ := m_st_no hM hq h80 (by omega) (fun a ha => by
        rw [hH]
        refine decide_eq_false fun e => ?_
        simp only [List.mem_cons, List.not_mem_nil, or_false] at ha
        rcases ha with rfl | rfl | rfl | rfl | rfl | rfl | rfl <;> contradiction)
      refine Or.inr ⟨ux (ux τ4 8 6 1) 8 7 q, s1, fun K => ?_, b1, 1, q, (xB.mk' ext.rf al4 1 q).exc (X1.ex e4), ?_, ⟨b2, b3, b4⟩, by decide, by decide⟩
      · exact (dm K (-1) _ hmk (xM2_no q τ4) _ rfl).trans (if_neg n_10)
      · unfold rmo at *
        rw [u8_N, u8_N, u8_N, u8_N]
        omega
  · obtain ⟨τ2, w1, w2, w3⟩ := word_bad G1 (by rw [hq]; exact hw)
    rw [hq] at w2
    obtain ⟨s1, b1, b2, b3, b4⟩ := m_st_no hM hq h80 (by omega) (fun a ha => by
      unfold hereW
      cases h1 : qL (bA T n q) with
      | false => rfl
      | true =>
        cases h2 : pd T n q with
        | true => rfl
        | false => exact absurd ⟨h1, h2⟩ hw)
    refine Or.inr ⟨τ2, s1, fun K => ?_, b1, 1, q, w2.exc X1, ?_, ⟨b2, b3, b4⟩, by decide, by decide⟩
    · exact st_gd nn (st_gd tc (st_bnd (st_f x80 (st_bind most_f (st_t rfl (st_gd nn (st_gd tc (st_gd tc (st_gd bd (st_be e1' (st_bind w1 (st_f n_10 rfl))))))))))))
    · unfold rmo at *
      rw [← fN]
      omega
end
