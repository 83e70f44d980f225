set_option maxRecDepth 100000
/-! LAYER 2: a law's statement of both: the sums -/
section
variable {T : Int → Int} {n p : Int} {τb τ τ' : XS} {s s' s0 : MS} {c : Int}
/-- the system's statement of a sum, kept in slot i -/
noncomputable def xLV (pl i : Int) (τ : XS) : Option RX :=
  gd (¬ (τ 7 6) = -1) <|
  gd (¬ (τ 7 6) = -1) <|
  gd (tg true τ (τ 7 6) = 2) <|
  Option.bind (x2_once (τ (τ 7 6) i) pl τ) fun z31 =>
  if z31.1 = 0 then
  gd (tg true z31.2.2 (τ 7 6) = 2) <|
  gd (0 ≤ (τ 7 6) ∧ ¬ (1438 ≤ (τ 7 6) ∧ (τ 7 6) < 1514)) <|
  gd (¬ z31.2.1 = -1) <|
  bnd (ux z31.2.2 (τ 7 6) i z31.2.1) fun s36 =>
  some (0, 0, s36)
  else some (1, 0, z31.2.2)
theorem xLV_1 (pl : Int) (τ : XS) : xM2 pl 1 τ = xLV pl 7 τ := by
  have a0 : ¬ i32 1 = 0 := by decide
  have a1 : i32 1 = 1 := by decide
  unfold xM2
  exact st_f a0 (st_t a1 rfl)
theorem xLV_2 (pl : Int) (τ : XS) : xM2 pl 2 τ = xLV pl 8 τ := by
  have a0 : ¬ i32 2 = 0 := by decide
  have a1 : ¬ i32 2 = 1 := by decide
  have a2 : i32 2 = 2 := by decide
  unfold xM2
  exact st_f a0 (st_f a1 (st_t a2 rfl))
theorem once_ok {pl v : Int} (h : x2_sum (x2_atom 9) (ux τ 7 5 31) = some (0, v, τ')) : x2_once (-1) pl τ = some (0, v, τ') := by
  unfold x2_once
  exact st_bnd (st_t rfl (st_bind most_f (st_t rfl (st_bnd (st_bind h (st_t rfl rfl))))))
theorem once_no {pl : Int} (h : x2_sum (x2_atom 9) (ux τ 7 5 31) = some (1, 0, τ')) : x2_once (-1) pl τ = some (1, 0, τ') := by
  unfold x2_once
  exact st_bnd (st_t rfl (st_bind most_f (st_t rfl (st_bnd (st_bind h (st_f n_10 rfl))))))
theorem once_two {pl a : Int} (h : ¬ a = -1) : x2_once a pl τ = some (1, 0, ux (ux τ 8 6 5) 8 7 pl) := by
  unfold x2_once
  exact st_bnd (st_f h (st_bind most_t (st_f n_10 rfl)))
theorem lawV_ok {pl i k : Int} (hk : k = 1 ∨ k = 2) (hi : i = 6 + k) {es fs : List Int} {ws vs : List (List Int)} (hG : xG T n τ p) (hM : mG T n s p) (hb : exc τb τ) (h4 : τ 7 4 = 0) (h6 : τ 7 6 = c) (hcb : lsb τb τ c) (hC : CYR τ s c 1 es fs ws vs) (h44 : s 44 0 ≤ p) :
    StR 0 T n τb c p τ s (xLV pl i τ) (m_codesTold k pl s) := by
  have hp := hG.2.2.2.2.1
  have hn := hG.1.1
  have hle := rn_le (q := qB) (T := T) (n := n) p
  have hc := hC.1
  have c0 := hc.1.1
  have hal := hG.2.2.2.2.2.1
  have h44' := hC.2.2.2.2.2
  have h5 : s 5 0 = 0 := hM.2.2.2.2.1
  have nn : ¬ τ 7 6 = -1 := by omega
  have kn : ¬ k = 0 := by omega
  have tc0 : tg true τ (τ 7 6) = 2 := by rw [h6]; exact tgf (t := 2) (new_fre c0) hc.1.2
  have hbd : 0 ≤ τ 7 6 ∧ ¬ (1438 ≤ τ 7 6 ∧ τ 7 6 < 1514) := by omega
  have hL : lawV τ s c k := by
    rcases hk with q | q
    · rw [q]; exact hC.2.2.2.2.1.2.1
    · rw [q]; exact hC.2.2.2.2.1.2.2
  unfold lawV at hL
  rw [← hi] at hL
  rcases hL with ⟨l1, l2⟩ | ⟨cs, l1, ⟨l2, l3, l4⟩, -⟩
  · have hG2 := hG.c5 31
    have l1' : τ (τ 7 6) i = -1 := by rw [h6]; exact l1
    have hb2 : exc τb (ux τ 7 5 31) := hb.u5
    rcases sums_ok (fl := false) p p 0 (ux τ 7 5 31) (lw0 s) [] [] 0 rfl hG2 (by rw [ux_i _ _ _ _ (by decide)]; exact h4) (by rw [ux_s]; rfl) (lw0_Q hM) (Or.inl rfl) (Or.inl rfl) (by rw [List.length_nil]; omega) with ⟨cs, p', c', τ1, s1, x1, ⟨x2, x3, x4, x5⟩, ⟨z1, z2⟩, x7, ⟨y1, y2, y3⟩, x8, nx⟩ | ⟨kd, pl', τ1, s1, x1, x2, x3, x4, x5, x6⟩
    · rw [List.nil_append] at y3
      rw [rg_c5] at x5
      have e44 : s1 44 = s 44 := lw0_k y2 44 (by decide)
      have hp' := x3.2.2.2.2.1
      have hwl := wlq_b (T := T) hp'.2
      have g5 : s1 5 0 = 0 := y3.1.2.2.2.2.1
      obtain ⟨sF, b1, b2, b3, b4, b5, b6, b7⟩ := cdPut_ev (k := k) (by omega) y3 (by rw [e44]; omega)
      have kp := kps.c5 x2
      have C1 : CYR τ1 s1 c 1 es fs ws vs := hC.kp hal kp (lw0_k y2)
      have al1 := x3.2.2.2.2.2.1
      have tc1 : tg true τ1 (τ 7 6) = 2 := by rw [h6]; exact tgf (t := 2) (new_fre c0) C1.1.1.2
      have hr1 := XV_dyn x5
      have hN := hal.1
      have nc : ¬ c' = -1 := by unfold rg at hr1; omega
      have ho : x2_once (τ (τ 7 6) i) pl τ = some (0, c', τ1) := by rw [l1']; exact once_ok x1
      left
      refine ⟨ux τ1 c i c', 0, sF, p', p', es, fs, ws, vs, ?_, ?_, ⟨x3.wr C1.1.1 (by omega), (hb2.ex x2).un hcb.1 c0, by rw [ux_cell (by omega)]; exact x4⟩, ⟨?_, ?_, rfl⟩, ⟨?_, ?_, (hcb.kp hal hc kp).wr C1.1 (by omega)⟩, by omega, ?_⟩
      · unfold xLV
        refine st_gd nn (st_gd nn (st_gd tc0 (st_bind ho (st_t rfl (st_gd tc1 (st_gd hbd (st_gd nc (st_bnd ?_))))))))
        rw [h6]
      · rw [(codes_new (by omega) h5 l2 (by rw [if_neg kn]; exact y1)).1 (by rw [g5]; decide)]
        exact b1
      · exact y3.1.of' b2 (by decide)
      · exact (lw0_st y2).tr b3
      · have f := C1.2.2.2.1
        have new : lawV (ux τ1 c i c') sF c k := by
          unfold lawV
          rw [← hi, ux_s]
          refine Or.inr ⟨cs, ?_, b4⟩
          exact XV_more (fun y hy => (cyn_new hal hc kp (by omega) hy).2) _ _ _ (XV_kept (fun y hy => (cyn_new hal hc kp (by omega) hy).1) _ _ _ x5)
        have old : ∀ k' : Int, k' ≠ k → k' = 1 ∨ k' = 2 → lawV τ1 s1 c k' → lawV (ux τ1 c i c') sF c k' := fun k' q1 q2 h => h.wr2 C1.1 (by omega) (b6 k' q1) (fun cs => b7 k' cs q1)
        refine C1.wr al1 (by omega) (fun k h => b2 k (by revert h; exact (by decide : ∀ k ∈ ([36, 37, 38, 39] : List Nat), k ∉ ([41, 42, 43, 44] : List Nat)) k)) (by rw [b5, e44]; omega) ?_ ⟨C1.2.2.2.2.1.1.wr2 C1.1 (by omega) (b6 0 (by omega)) (fun cs => b7 0 cs (by omega)), ?_, ?_⟩
        · unfold cyF
          rw [ux_i _ _ _ _ (show (0 : Int) ≠ i by omega), ux_i _ _ _ _ (show (1 : Int) ≠ i by omega), ux_i _ _ _ _ (show (2 : Int) ≠ i by omega), ux_i _ _ _ _ (show (3 : Int) ≠ i by omega), b2 45 (by decide), b2 35 (by decide), b2 40 (by decide)]
          exact f
        · by_cases q : k = 1
          · rw [q] at new; exact new
          · exact old 1 (by omega) (Or.inl rfl) C1.2.2.2.2.1.2.1
        · by_cases q : k = 2
          · rw [q] at new; exact new
          · exact old 2 (by omega) (Or.inr rfl) C1.2.2.2.2.1.2.2
      · rw [b5, e44]
        omega
      · have x7 := x7.c5
        unfold rmo at *
        rw [ux_cell (by omega)]
        omega
    · have ho : x2_once (τ (τ 7 6) i) pl τ = some (1, 0, τ1) := by rw [l1']; exact once_no x1
      right; left
      refine ⟨kd, pl', τ1, 0, s1, ?_, x2.exc hb2, x3.c5.mono (by omega) (by omega), ⟨?_, lw0_st x5.1, x5.2.1, x5.2.2.1⟩, x6⟩
      · unfold xLV
        exact st_gd nn (st_gd nn (st_gd tc0 (st_bind ho (st_f n_10 rfl))))
      · refine (codes_new (by omega) h5 l2 (by rw [if_neg kn]; exact x4)).2 ?_
        rw [x5.2.1, i32_id (by omega) (by omega)]
        omega
  · have hr1 := (XV_dyn l1).1
    have l1' : ¬ τ (τ 7 6) i = -1 := by rw [h6]; omega
    right; left
    refine ⟨5, pl, ux (ux τ 8 6 5) 8 7 pl, 0, up (up s 5 0 5) 6 0 pl, ?_, (xB.mk' ext.rf hal 5 pl).exc hb, ?_, ⟨codes_again (by omega) h5 (by omega), ?_, ?_, ?_⟩, by decide⟩
    · unfold xLV
      exact st_gd nn (st_gd nn (st_gd tc0 (st_bind (once_two l1') (st_f n_10 rfl))))
    · unfold rmo
      rw [u8_N, u8_N, u8_N, u8_N]
      omega
    · exact stk.of (ks := [5, 6]) ((only.up (by decide)).tr (only.up (by decide))) (by decide)
    · rw [up_row (by decide), up_s]
    · rw [up_s]
end
