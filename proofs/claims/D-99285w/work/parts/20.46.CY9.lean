set_option maxRecDepth 100000
/-! LAYER 2: a word and a number behind it; a new name -/
section
variable {T : Int → Int} {n p : Int} {τb τ τ' : XS} {s s' s0 : MS} {c : Int}
theorem asks_bd {a : Nat} {kd : Int} (h5 : s 5 0 = kd) (hk : 1 ≤ kd ∧ kd ≤ 5) : m_asks a s = some (0, s) := by
  unfold m_asks
  exact st_f (by rw [h5, i32_id (by omega) (by omega)]; omega) rfl
theorem sign_bad {a kd : Int} (h5 : s 5 0 = kd) (hk : 1 ≤ kd ∧ kd ≤ 5) : m_asksSign a s = some (0, s) := by
  unfold m_asksSign
  exact st_f (by rw [h5, i32_id (by omega) (by omega)]; omega) rfl
/-- a word, and a number from 0 to 9 behind it -/
theorem numW {q : Int × List Int} {a : Nat} (hq : q ∈ csl) (ha : a ∈ wfs) (hwa : wo a = q.2) (hG : xG T n τ p) (hM : mG T n s p) :
    (∃ v e τ' s1 s', x2_number_2 (τ (-1) q.1) 0 9 τ = some (0, v, τ') ∧ (ext τ τ' ∧ xG T n τ' e ∧ τ' 7 4 = τ 7 4) ∧ rn qB T n p < e ∧ rmo 3 (4 + 2 * (e - p)) τ τ' ∧ (0 ≤ v ∧ v ≤ 9) ∧ m_asks a s = some (0, s1) ∧ m_number 0 9 s1 = some (v, s') ∧ only [2, 4] s s' ∧ mG T n s' e) ∨
    (∃ kd pl τ' s1 v s', x2_number_2 (τ (-1) q.1) 0 9 τ = some (1, 0, τ') ∧ xB kd pl τ τ' ∧ rmo 3 (4 + 2 * (n - p)) τ τ' ∧ m_asks a s = some (0, s1) ∧ m_number 0 9 s1 = some (v, s') ∧ mB kd pl s s' ∧ 1 ≤ kd ∧ kd ≤ 5) := by
  have hp := hG.2.2.2.2.1
  have hle := rn_le (q := qB) (T := T) (n := n) p
  have hsk := sk_b hG
  cases hw : hereW T n (rn qB T n p) q.2 with
  | true =>
    obtain ⟨τ1, x1, x2, x3, x4, x5⟩ := wordW_t hG hq hw
    obtain ⟨s1, m1, m2, m3⟩ := m_asks_t hM ha (by rw [hwa]; exact hw)
    have hr := rn_lt (q := qL) (T := T) (n := n) qL_1 (hereW_at hw).1
    have hle2 := rn_le (q := qB) (T := T) (n := n) (rn qL T n (rn qB T n p))
    have hr' := rn_hi (q := qL) (T := T) qL_1 hsk.2
    obtain ⟨X1, X2⟩ := number_ev x3 (lo := 0) (hi := 9) (by omega) (by omega)
    obtain ⟨M1, M2⟩ := m_number_ev m3 (lo := 0) (hi := 9) (by omega) (by omega)
    by_cases h0 : (tkN T n (rn qL T n (rn qB T n p)) 0 9).1 = 0
    · obtain ⟨τ2, y1, y2, y3, y4, y5⟩ := X1 h0
      obtain ⟨s2, b1, b2, b3⟩ := M1 h0
      obtain ⟨t1, t2⟩ := tkN_end h0
      refine Or.inl ⟨_, _, τ2, s1, s2, ?_, ⟨x2.tr y2, y3, by rw [y4, x4]⟩, by omega, ?_, t2, m1, b1, m2.tr b2, b3⟩
      · unfold x2_number_2
        exact st_bind x1 (st_t rfl (st_bind y1 (st_t rfl rfl)))
      · unfold rmo at *
        rw [y5]
        omega
    · obtain ⟨τ2, y1, y2, y3⟩ := X2 h0
      obtain ⟨v, s2, b1, b2, b3⟩ := M2 h0
      refine Or.inr ⟨_, _, τ2, s1, v, s2, ?_, y2.after x2, ?_, m1, b1, ⟨(m2.mono (by decide)).tr b3.1, b3.2⟩, tkN_kd h0⟩
      · unfold x2_number_2
        exact st_bind x1 (st_t rfl (st_bind y1 (st_f n_10 rfl)))
      · unfold rmo at *
        rw [y3]
        omega
  | false =>
    obtain ⟨τ1, x1, x2, x3⟩ := wordW_f hG hq hw
    obtain ⟨s1, m1, m2⟩ := m_asks_f hM ha (by rw [hwa]; exact hw)
    refine Or.inr ⟨1, _, τ1, s1, 0, s1, ?_, x2, x3.mono (by omega) (by omega), m1, number_bad m2.2.1 (by omega), m2, by omega, by omega⟩
    unfold x2_number_2
    exact st_bind x1 (st_f n_10 rfl)
/-- a new name -/
theorem fresh_ok {es fs : List Int} {ws vs : List (List Int)} {d : Int} (hG : xG T n τ p) (hM : mG T n s p) (h6 : τ 7 6 = c) (hC : CYR τ s c d es fs ws vs) :
    (∃ w a e τ' s', x2_fresh τ = some (0, a, τ') ∧ (ext τ τ' ∧ xG T n τ' e ∧ τ' 7 4 = τ 7 4) ∧ (strX τ' a w ∧ τ (-1) 0 ≤ a) ∧ (w.length ≤ 6 ∧ ∀ x ∈ w, 97 ≤ x ∧ x ≤ 122) ∧ rn qB T n p < e ∧ rmo 3 (4 + 2 * (e - p)) τ τ' ∧ m_newName s = some (nmV w, s') ∧ only [2, 4, 34] s s' ∧ mG T n s' e) ∨
    (∃ kd pl τ' v s', x2_fresh τ = some (1, 0, τ') ∧ xB kd pl τ τ' ∧ rmo 3 (4 + 2 * (n - p)) τ τ' ∧ m_newName s = some (v, s') ∧ mB kd pl s s' ∧ 1 ≤ kd ∧ kd ≤ 5) := by
  have hp := hG.2.2.2.2.1
  have hal := hG.2.2.2.2.2.1
  have hle := rn_le (q := qB) (T := T) (n := n) p
  have c0 := hC.1.1.1
  obtain ⟨X1, X2⟩ := name_ev hG
  have W0 := hC.2.1.2.1
  have W1 := hC.2.2.1.2
  obtain ⟨M1, M2⟩ := newName_ev hM W0.nmB W1.nmB
  by_cases h0 : (tkM T n p).1 = 0
  · obtain ⟨a, τ1, x1, x2, x3, x4, x5, x6, x7, x8⟩ := X1 h0
    obtain ⟨M3, M4⟩ := M1 h0
    obtain ⟨e1, e2, e3, e4⟩ := tkM_at h0
    obtain ⟨⟨w1, w1'⟩, w2, -⟩ := name_word h0
    have t1 := rn_lt (q := qL) (T := T) (n := n) qL_1 e3.1
    rw [← e2] at t1
    generalize hW : wdl T (tkM T n p).2.1 (tkM T n p).2.2 = w at *
    generalize hA : (tkM T n p).2.1 = at1 at *
    generalize hE : (tkM T n p).2.2 = e at *
    have he := x5.2.2.2.2.1
    have C1 : CYR τ1 s c d es fs ws vs := hC.keep hal x4 (fun k _ => rfl)
    have al1 := x5.2.2.2.2.2.1
    have hN := hal.1
    have x76 : τ1 7 6 = c := by rw [x4.2.2.2 6 (by decide) (by decide) (by decide)]; exact h6
    have tc : tg true τ1 (τ1 7 6) = 2 := by rw [x76]; exact tgf (t := 2) (new_fre c0) C1.1.1.2
    have y1 : ¬ τ1 7 6 = -1 := by omega
    have F4 := find9_ev (fun _ h => nwc_dyn h) x2 (by omega) C1.sayings
    have F5 := find9_ev (fun _ h => nwc_dyn h) x2 (by omega) C1.verbs
    rw [show τ1 c 4 = τ1 (τ1 7 6) 4 by rw [x76]] at F4
    rw [show τ1 c 5 = τ1 (τ1 7 6) 5 by rw [x76]] at F5
    have l4 : 1514 ≤ τ1 c 4 := C1.1.2.2.1.1.1.1
    have l5 : 1514 ≤ τ1 c 5 := C1.1.2.2.2.1.1.1
    have n4 : ¬ τ1 (τ1 7 6) 4 = -1 := by rw [x76]; omega
    have n5 : ¬ τ1 (τ1 7 6) 5 = -1 := by rw [x76]; omega
    have u0 := W0.used w2
    have u1 := W1.used w2
    have f4 := fnd_no w ws 0 (by omega)
    have f5 := fnd_no w vs 0 (by omega)
    have b4 := fnd_b w ws 0 (by omega)
    have b5 := fnd_b w vs 0 (by omega)
    have q4 := W0.2.1
    have q5 := W1.2.1
    have j10 : ¬ i32 1 = 0 := by decide
    have j00 : i32 0 = 0 := by decide
    have im : i32 (-1) = -1 := by decide
    have wr : x2_wrong 3 (τ1 7 3) τ1 = some (8, ux (ux τ1 8 6 3) 8 7 at1) := by rw [x6]; exact wrong_ev τ1 3 at1
    have bad : (usedN s 0 (nmV w) ∨ usedN s 1 (nmV w)) → x1_isNamed true (τ1 7 6) a τ1 = some (1, τ1) → (∃ kd pl τ' v s', x2_fresh τ = some (1, 0, τ') ∧ xB kd pl τ τ' ∧ rmo 3 (4 + 2 * (n - p)) τ τ' ∧ m_newName s = some (v, s') ∧ mB kd pl s s' ∧ 1 ≤ kd ∧ kd ≤ 5) := fun hu hx => by
      obtain ⟨v, s1, m1, m2⟩ := M4 hu
      refine ⟨3, at1, ux (ux τ1 8 6 3) 8 7 at1, v, s1, ?_, xB.mk' x4 al1 3 at1, ?_, m1, m2, by decide, by decide⟩
      · unfold x2_fresh
        exact st_bind x1 (st_t rfl (st_bnd (st_gd y1 (st_gd tc (st_bind hx (st_f j10 (st_bind wr (st_gd rfl rfl))))))))
      · unfold rmo at *
        rw [u8_N, u8_N, u8_N, u8_N]
        omega
    by_cases g4 : fnd w ws 0 = -1
    · have j4 : i32 (fnd w ws 0) = i32 (-1) := by rw [g4]
      by_cases g5 : fnd w vs 0 = -1
      · have j5 : i32 (fnd w vs 0) = i32 (-1) := by rw [g5]
        have hx : x1_isNamed true (τ1 7 6) a τ1 = some (0, τ1) := by
          unfold x1_isNamed
          exact st_gd tc (st_gd n4 (st_bind F4 (st_bnd (st_t j4 (st_gd tc (st_gd n5 (st_bind F5 (st_t j5 rfl))))))))
        obtain ⟨s1, m1, m2, m3⟩ := M3 (fun h => by
          rcases h with h | h
          · exact f4.mp g4 (u0.mp h)
          · exact f5.mp g5 (u1.mp h))
        refine Or.inl ⟨w, a, e, τ1, s1, ?_, ⟨x4, x5, x7⟩, ⟨x2, x3⟩, ⟨w1', w2⟩, by omega, x8, m1, m2, m3⟩
        unfold x2_fresh
        exact st_bind x1 (st_t rfl (st_bnd (st_gd y1 (st_gd tc (st_bind hx (st_t j00 rfl))))))
      · have j5 : ¬ i32 (fnd w vs 0) = i32 (-1) := by rw [i32_id (by omega) (by omega), im]; exact g5
        refine Or.inr (bad (Or.inr (u1.mpr (Classical.byContradiction fun h => g5 (f5.mpr h)))) ?_)
        unfold x1_isNamed
        exact st_gd tc (st_gd n4 (st_bind F4 (st_bnd (st_t j4 (st_gd tc (st_gd n5 (st_bind F5 (st_f j5 rfl))))))))
    · have j4 : ¬ i32 (fnd w ws 0) = i32 (-1) := by rw [i32_id (by omega) (by omega), im]; exact g4
      refine Or.inr (bad (Or.inl (u0.mpr (Classical.byContradiction fun h => g4 (f4.mpr h)))) ?_)
      unfold x1_isNamed
      exact st_gd tc (st_gd n4 (st_bind F4 (st_bnd (st_f j4 rfl))))
  · obtain ⟨τ1, x1, x2, x3⟩ := X2 h0
    obtain ⟨v, s1, m1, m2⟩ := M2 h0
    refine Or.inr ⟨_, _, τ1, v, s1, ?_, x2, x3, m1, m2, tkM_kd h0⟩
    unfold x2_fresh
    exact st_bind x1 (st_f n_10 rfl)
end
