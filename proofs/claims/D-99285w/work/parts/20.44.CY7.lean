set_option maxRecDepth 100000
/-! LAYER 2: a law's statement of both: the test -/
section
variable {T : Int → Int} {n p : Int} {τb τ τ' : XS} {s s' s0 : MS} {c : Int}
theorem kps.c5 {x : Int} (h : ext (ux τ 7 5 x) τ') : kps τ τ' := by
  refine ⟨by have := h.1.1; rw [u7_N] at this; exact this, fun y q1 q2 => ?_⟩
  have q3 := fre_ne q1
  unfold fre at q1
  rw [h.2.2.1 y q3 (by omega) (by omega) (by rw [u7_N]; exact q2), ux_cell (by omega)]
theorem rmo.c5 {x a b : Int} (h : rmo a b (ux τ 7 5 x) τ') : rmo a b τ τ' := by
  unfold rmo at *
  rw [u7_N, u7_N] at h
  exact h
theorem rg_c5 {x : Int} : rg (ux τ 7 5 x (-1) 0) (τ' (-1) 0) = rg (τ (-1) 0) (τ' (-1) 0) := by rw [u7_N]
theorem lw0_k (h : only pks (lw0 s) s') : ∀ k ∈ cyk, s' k = s k := fun k hk => by
  rw [h k (by revert hk; exact (by decide : ∀ k ∈ cyk, k ∉ pks) k), lw0_o s k (by revert hk; exact (by decide : ∀ k ∈ cyk, k ∉ ([47, 97, 99, 100, 101] : List Nat)) k)]
theorem lw0_st (h : only pks (lw0 s) s') : stk s s' := (stk.of (lw0_o s) (by decide)).tr (stk.of h (by decide))
theorem lawT_ok {pl : Int} {es fs : List Int} {ws vs : List (List Int)} (hG : xG T n τ p) (hM : mG T n s p) (hb : exc τb τ) (h4 : τ 7 4 = 0) (h6 : τ 7 6 = c) (hcb : lsb τb τ c) (hC : CYR τ s c 1 es fs ws vs) (h44 : s 44 0 ≤ p) :
    StR 0 T n τb c p τ s (xM2 pl 0 τ) (m_codesTold 0 pl s) := by
  have hp := hG.2.2.2.2.1
  have hn := hG.1.1
  have hle := rn_le (q := qB) (T := T) (n := n) p
  have hc := hC.1
  have c0 := hc.1.1
  have hal := hG.2.2.2.2.2.1
  have h44' := hC.2.2.2.2.2
  have h5 : s 5 0 = 0 := hM.2.2.2.2.1
  have k0 : i32 0 = 0 := by decide
  have nn : ¬ τ 7 6 = -1 := by omega
  have tc0 : tg true τ (τ 7 6) = 2 := by rw [h6]; exact tgf (t := 2) (new_fre c0) hc.1.2
  rcases hC.2.2.2.2.1.1 with ⟨l1, l2⟩ | ⟨cs, l1, ⟨l2, l3, l4⟩, -⟩
  · have hG2 := hG.c5 31
    have f6 : ux τ 7 5 31 7 6 = c := by rw [ux_i _ _ _ _ (by decide)]; exact h6
    have f6n : ¬ ux τ 7 5 31 7 6 = -1 := by omega
    have l1' : τ (τ 7 6) 6 = -1 := by rw [h6]; exact l1
    have hb2 : exc τb (ux τ 7 5 31) := hb.u5
    have hbd : 0 ≤ ux τ 7 5 31 7 6 ∧ ¬ (1438 ≤ ux τ 7 5 31 7 6 ∧ ux τ 7 5 31 7 6 < 1514) := by omega
    rcases tests_ok (fl := false) p p (ux τ 7 5 31) (lw0 s) [] rfl hG2 (by rw [ux_i _ _ _ _ (by decide)]; exact h4) (by rw [ux_s]; rfl) (lw0_Q hM) (by rw [List.length_nil]; omega) with ⟨cs, p', c', τ1, s1, x1, ⟨x2, x3, x4, x5⟩, ⟨z1, z2⟩, x7, ⟨y1, y2, y3⟩, x8⟩ | ⟨kd, pl', τ1, s1, x1, x2, x3, x4, x5, x6⟩ | ⟨q, τ1, s1, Cx, ox, x1, x2, x3, ⟨y1, y2, y3⟩, ⟨z1, z2⟩, x8⟩
    · rw [List.nil_append] at y3
      rw [rg_c5] at x5
      have e44 : s1 44 = s 44 := lw0_k y2 44 (by decide)
      have hp' := x3.2.2.2.2.1
      have hwl := wlq_b (T := T) hp'.2
      have g5 : s1 5 0 = 0 := y3.1.2.2.2.2.1
      obtain ⟨sF, b1, b2, b3, b4, b5, b6, b7⟩ := cdPut_ev (k := 0) (by decide) y3 (by rw [e44]; omega)
      have kp := kps.c5 x2
      have C1 : CYR τ1 s1 c 1 es fs ws vs := hC.kp hal kp (lw0_k y2)
      have al1 := x3.2.2.2.2.2.1
      have tc1 : tg true τ1 (ux τ 7 5 31 7 6) = 2 := by rw [f6]; exact tgf (t := 2) (new_fre c0) C1.1.1.2
      have hr1 := XT_dyn x5
      have hN := hal.1
      have nc : ¬ c' = -1 := by unfold rg at hr1; omega
      have e76 : τ1 7 4 = 0 := x4
      left
      refine ⟨ux τ1 c 6 c', 0, sF, p', rn qB T n p', es, fs, ws, vs, ?_, ?_, ⟨x3.wr C1.1.1 (by decide), (hb2.ex x2).un hcb.1 c0, by rw [ux_cell (by omega)]; exact e76⟩, ⟨?_, ?_, sk_sk T n p'⟩, ⟨?_, ?_, (hcb.kp hal hc kp).wr C1.1 (by decide)⟩, by omega, ?_⟩
      · unfold xM2
        refine st_t k0 (st_gd nn (st_gd tc0 (st_bnd (st_t l1' (st_bind most_f (st_t rfl (st_bnd (st_gd f6n (st_bind x1 (st_t rfl (st_gd tc1 (st_gd hbd (st_gd nc (st_bnd ?_))))))))))))))
        rw [f6]
      · rw [(codes_new (by decide) h5 l2 (by rw [if_pos rfl]; exact y1)).1 (by rw [g5]; decide)]
        exact b1
      · exact y3.1.of' b2 (by decide)
      · exact (lw0_st y2).tr b3
      · have f := C1.2.2.2.1
        refine C1.wr al1 (by decide) (fun k h => b2 k (by revert h; exact (by decide : ∀ k ∈ ([36, 37, 38, 39] : List Nat), k ∉ ([41, 42, 43, 44] : List Nat)) k)) (by rw [b5, e44]; omega) ?_ ⟨?_, C1.2.2.2.2.1.2.1.wr2 C1.1 (by decide) (b6 1 (by decide)) (fun cs => b7 1 cs (by decide)), C1.2.2.2.2.1.2.2.wr2 C1.1 (by decide) (b6 2 (by decide)) (fun cs => b7 2 cs (by decide))⟩
        · unfold cyF
          rw [ux_i _ _ _ _ (by decide), ux_i _ _ _ _ (by decide), ux_i _ _ _ _ (by decide), ux_i _ _ _ _ (by decide), b2 45 (by decide), b2 35 (by decide), b2 40 (by decide)]
          exact f
        · right
          refine ⟨cs, ?_, b4⟩
          rw [ux_s]
          exact XT_kept (fun y hy => (cyn_new hal hc kp (by decide) hy).1) (fun y hy => (cyn_new hal hc kp (by decide) hy).2) _ _ _ x5
      · rw [b5, e44]
        omega
      · have x7 := x7.c5
        unfold rmo at *
        rw [ux_cell (by omega)]
        omega
    · right; left
      refine ⟨kd, pl', τ1, 0, s1, ?_, x2.exc hb2, x3.c5.mono (by omega) (by omega), ⟨?_, lw0_st x5.1, x5.2⟩, x6⟩
      · unfold xM2
        exact st_t k0 (st_gd nn (st_gd tc0 (st_bnd (st_t l1' (st_bind most_f (st_t rfl (st_bnd (st_gd f6n (st_bind x1 (st_f n_10 rfl))))))))))
      · refine (codes_new (by decide) h5 l2 (by rw [if_pos rfl]; exact x4)).2 ?_
        rw [x5.2.1, i32_id (by omega) (by omega)]
        omega
    · have e44 : s1 44 = s 44 := lw0_k y2 44 (by decide)
      have g5 : s1 5 0 = 0 := y3.1.2.2.2.2.1
      have hq := y3.1.2.2.2.2.2.1
      rw [List.length_nil] at x8
      obtain ⟨sF, b1, b2, b3, b4, b5, b6, b7⟩ := cdPut_ev (k := 0) (by decide) y3 (by rw [e44]; omega)
      right; right
      refine ⟨q, τ1, 0, sF, ?_, x2.exc hb2, x3.c5.mono (by omega) (by omega), ⟨?_, (lw0_st y2).tr b3, y3.1.of' b2 (by decide)⟩, z1, z2⟩
      · unfold xM2
        exact st_t k0 (st_gd nn (st_gd tc0 (st_bnd (st_t l1' (st_bind most_f (st_t rfl (st_bnd (st_gd f6n (st_bind x1 (st_f n_10 rfl))))))))))
      · rw [(codes_new (by decide) h5 l2 (by rw [if_pos rfl]; exact y1)).1 (by rw [g5]; decide)]
        exact b1
  · have hr1 := (XT_dyn l1).1
    have l1' : ¬ τ (τ 7 6) 6 = -1 := by rw [h6]; omega
    right; left
    refine ⟨5, pl, ux (ux τ 8 6 5) 8 7 pl, 0, up (up s 5 0 5) 6 0 pl, ?_, (xB.mk' ext.rf hal 5 pl).exc hb, ?_, ⟨codes_again (by decide) h5 (by omega), ?_, ?_, ?_⟩, by decide⟩
    · unfold xM2
      exact st_t k0 (st_gd nn (st_gd tc0 (st_bnd (st_f l1' (st_bind most_t (st_f n_10 rfl))))))
    · unfold rmo
      rw [u8_N, u8_N, u8_N, u8_N]
      omega
    · exact stk.of (ks := [5, 6]) ((only.up (by decide)).tr (only.up (by decide))) (by decide)
    · rw [up_row (by decide), up_s]
    · rw [up_s]
end
