set_option maxRecDepth 100000
/-! LAYER 2: the statement of a saying -/
section
variable {T : Int → Int} {n p : Int} {τb τ τ' : XS} {s s' s0 : MS} {c : Int}
theorem saying_ok {pl : Int} {es fs : List Int} {ws vs : List (List Int)} (hG : xG T n τ p) (hM : mG T n s p) (hb : exc τb τ) (h4 : τ 7 4 = 0) (h6 : τ 7 6 = c) (hC : CYR τ s c 1 es fs ws vs) (h44 : s 44 0 ≤ p) :
    (∃ kd pl' τ' z s', xN2 pl 0 τ = some (1, 0, τ') ∧ (exc τb τ' ∧ al τ' ∧ τ' 8 6 = kd ∧ τ' 8 7 = pl') ∧ rmo (60 * (n - p) + 100) (500 * (n - p) + 600) τ τ' ∧ (m_sayingTold pl s = some (z, s') ∧ stk s s' ∧ s' 5 0 = kd ∧ s' 6 0 = pl') ∧ 1 ≤ kd ∧ kd ≤ 5) ∨
    ∃ w a e1 τ1 v1 e2 vq e4 τ2 τ3 v2 e3 τ4 s3, ws.length ≤ 5 ∧ xN2 pl 0 τ = (Option.bind (x10_init true (τ2 (-1) 0) a v1 vq v2 τ4) fun z65 => gd (tg true z65.2 (τ2 (τ2 7 6) 4) = 21) <| Option.bind (j2_add true (τ2 (τ2 7 6) 4) (τ2 (-1) 0) z65.2) fun z66 => some (0, 1, z66.2)) ∧ m_sayingTold pl s = syPut (nmV w) v1 vq v2 s3 ∧ (ext τ τ1 ∧ ext τ1 τ2 ∧ ext τ2 τ3 ∧ ext τ3 τ4) ∧ (strX τ1 a w ∧ τ (-1) 0 ≤ a ∧ al τ1) ∧ (w.length ≤ 6 ∧ ∀ x ∈ w, 97 ≤ x ∧ x ≤ 122) ∧ (al τ2 ∧ al τ3 ∧ τ3 (τ2 (-1) 0) (-1) = 9 ∧ τ3 (-1) 0 = τ2 (-1) 0 + 1) ∧ ((0 ≤ v1 ∧ v1 ≤ 9) ∧ (0 ≤ vq ∧ vq ≤ 9) ∧ 0 ≤ v2 ∧ v2 ≤ 9) ∧ (p < e1 ∧ e1 < e2 ∧ e2 < e4 ∧ e4 < e3) ∧ (xG T n τ4 e3 ∧ τ4 7 4 = 0) ∧ (only [2, 4, 34] s s3 ∧ mG T n s3 e3) ∧ rmo 10 (15 + 2 * (e3 - p)) τ τ4 := by
  have o41 : ok 4 0 := by decide
  have z1 : i32 0 = 0 := by decide
  have hp := hG.2.2.2.2.1
  have hle := rn_le (q := qB) (T := T) (n := n) p
  have hc := hC.1
  have c0 := hc.1.1
  have hal := hG.2.2.2.2.2.1
  have h5 : s 5 0 = 0 := hM.2.2.2.2.1
  have z5 : i32 (s 5 0) = 0 := by rw [h5]; decide
  have nn : ¬ τ 7 6 = -1 := by omega
  have tc0 : tg true τ (τ 7 6) = 2 := by rw [h6]; exact tgf (t := 2) (new_fre c0) hc.1.2
  have l5 : 1514 ≤ τ c 4 := hc.2.2.1.1.1.1
  have n5 : ¬ τ (τ 7 6) 4 = -1 := by rw [h6]; omega
  have g21 : tg true τ (τ (τ 7 6) 4) = 21 := by rw [h6]; exact tgf (t := 21) (new_fre l5) hc.tags.2.1
  have hsz : j2_size true (τ (τ 7 6) 4) τ = some ((es.length : Int), τ) := by rw [h6]; exact size_ev (fun _ h => nwc_dyn h) hc.2.2.1.1
  have hfl : es.length = ws.length := hC.2.1.1.1
  have h36 : s 36 0 = ws.length := hC.2.1.2.1.1
  have h7 := hC.2.1.2.2
  by_cases full : ws.length = 6
  · have j7 : i32 (es.length : Int) = i32 6 := by rw [hfl, full]; rfl
    have m7 : i32 (s 36 (i32 0)) = i32 6 := by rw [z1, h36, full]; rfl
    left
    refine ⟨5, pl, ux (ux τ 8 6 5) 8 7 pl, 0, up (up s 5 0 5) 6 0 pl, ?_, (xB.mk' ext.rf hal 5 pl).exc hb, ?_, ⟨?_, stk.of (ks := [5, 6]) ((only.up (by decide)).tr (only.up (by decide))) (by decide), ?_, ?_⟩, by decide⟩
    · unfold xN2
      exact (st_t z1 (st_gd nn (st_gd tc0 (st_gd n5 (st_gd g21 (st_bind hsz (st_bnd (st_t j7 (st_bind most_t (st_f n_10 rfl))))))))))
    · unfold rmo
      rw [u8_N, u8_N, u8_N, u8_N]
      omega
    · unfold m_sayingTold
      exact st_bnd (st_t z5 (st_gd o41 (st_t m7 (st_bind (m_fail_ev h5) (st_f (nb (s := up (up s 5 0 5) 6 0 pl) (kd := 5) (by rw [up_row (by decide), up_s]) (by decide)) rfl)))))
    · rw [up_row (by decide), up_s]
    · rw [up_s]
  · have j7 : ¬ i32 (es.length : Int) = i32 6 := by rw [hfl, i32_id (by omega) (by omega), show i32 6 = 6 from by decide]; omega
    have m7 : ¬ i32 (s 36 (i32 0)) = i32 6 := by rw [z1, h36, i32_id (by omega) (by omega), show i32 6 = 6 from by decide]; omega
    rcases fresh_ok hG hM h6 hC with ⟨w, a, e1, τ1, s1, x1, ⟨x2, x3, x4⟩, ⟨x5, x5'⟩, x6, x7, x8, m1, m2, m3⟩ | ⟨kd, pl', τ1, v, s1, x1, x2, x3, m1, m2, hk⟩
    · have he1 := x3.2.2.2.2.1
      have hle1 := rn_le (q := qB) (T := T) (n := n) e1
      rcases numW (q := (124, [97, 116])) (a := 12) (by decide) (by decide) (by decide) x3 m3 with ⟨v1, e2, τq, s2', s2, y1, ⟨y2, y3, y4⟩, y5, y6, y7, b1, b2, b3, b4⟩ | ⟨kd, pl', τ2, s2', v1, s2, y1, y2, y3, b1, b2, b3, hk⟩
      · have heq := y3.2.2.2.2.1
        have hleq := rn_le (q := qB) (T := T) (n := n) e2
        rcases numN y3 b4 with ⟨vq, e4, τ2, sq, f1, ⟨f2, f3, f4⟩, f5, f6, f7, g1, g2, g3⟩ | ⟨kd, pl', τ2, vq, sq, f1, f2, f3, g1, g2, hk⟩
        · have he2 := f3.2.2.2.2.1
          have hle2 := rn_le (q := qB) (T := T) (n := n) e4
          have al2 := f3.2.2.2.2.2.1
          obtain ⟨τ3, r1, r2, r3, r4, r5, r6, r7, r8⟩ := newOb_ev (τ0 := τ2) al2 ext.rf 9 4 (by decide)
          have r77 : τ3 7 = τ2 7 := r7 7 (by have := al2.1; omega) (by decide)
          have G3 : xG T n τ3 e4 := f3.of r3 r2 (by rw [r77]; exact f3.2.2.2.1) he2
          have x12 := (x2.tr y2).tr f2
          have q76 : τ2 7 6 = c := by rw [x12.2.2.2 6 (by decide) (by decide) (by decide)]; exact h6
          have C2 : CYR τ2 s c 1 es fs ws vs := hC.keep hal x12 (fun k _ => rfl)
          have u1 : ¬ τ2 7 6 = -1 := by omega
          have u2 : tg true τ2 (τ2 7 6) = 2 := by rw [q76]; exact tgf (t := 2) (new_fre c0) C2.1.1.2
          have u3 : ¬ τ2 (τ2 7 6) 4 = -1 := by rw [q76]; have : 1514 ≤ τ2 c 4 := C2.1.2.2.1.1.1.1; omega
          have u4 : 0 ≤ τ2 (-1) 0 ∧ 0 ≤ τ2 (-1) 1 := by have := al2.1; have := al2.2.1; omega
          rcases numW (q := (125, [116, 111, 110, 101])) (a := 13) (by decide) (by decide) (by decide) G3 g3 with ⟨v2, e3, τ4, s3', s3, i1, ⟨i2, i3, i4⟩, i5, i6, i7, d1, d2, d3, d4⟩ | ⟨kd, pl', τ4, s3', v2, s3, i1, i2, i3, d1, d2, d3, hk⟩
          · have w5 : i32 (s3 5 0) = 0 := by rw [d4.2.2.2.2.1]; decide
            right
            refine ⟨w, a, e1, τ1, v1, e2, vq, e4, τ2, τ3, v2, e3, τ4, s3, by omega, ?_, ?_, ⟨x2, y2.tr f2, r3, i2⟩, ⟨x5, x5', x3.2.2.2.2.2.1⟩, x6, ⟨al2, r2, r4, r5⟩, ⟨y7, f7, i7⟩, by omega, ⟨i3, by rw [i4, r77, f4, y4, x4]; exact h4⟩, ⟨((m2.tr (b3.mono (by decide))).tr (g2.mono (by decide))).tr (d3.mono (by decide)), d4⟩, ?_⟩
            · unfold xN2
              exact st_t z1 (st_gd nn (st_gd tc0 (st_gd n5 (st_gd g21 (st_bind hsz (st_bnd (st_f j7 (st_bind most_f (st_t rfl (st_bind x1 (st_t rfl (st_bnd (st_bind y1 (st_t rfl (st_bnd (st_bind f1 (st_t rfl (st_bnd (st_gd u1 (st_gd u2 (st_gd u3 (st_gd u4 (st_be r1 (st_bind i1 (st_t rfl rfl)))))))))))))))))))))))))
            · unfold m_sayingTold
              exact st_bnd (st_t z5 (st_gd o41 (st_f m7 (st_t z5 (st_bind m1 (st_bnd (st_bind b1 (st_bind b2 (st_bnd (st_bind g1 (st_bnd (st_bind d1 (st_bind d2 (st_bnd (st_t w5 rfl)))))))))))))))
            · unfold rmo at *
              omega
          · left
            refine ⟨kd, pl', τ4, 0, s3, ?_, i2.exc ((hb.ex x12).ex r3), ?_, ⟨?_, (stk.of ((m2.mono (by decide : ∀ k, k ∈ ([2, 4, 34] : List Nat) → k ∈ ([2, 4, 5, 6, 34] : List Nat))).tr ((b3.mono (by decide)).tr ((g2.mono (by decide)).tr d3.1))) (by decide)), d3.2⟩, hk⟩
            · unfold xN2
              exact st_t z1 (st_gd nn (st_gd tc0 (st_gd n5 (st_gd g21 (st_bind hsz (st_bnd (st_f j7 (st_bind most_f (st_t rfl (st_bind x1 (st_t rfl (st_bnd (st_bind y1 (st_t rfl (st_bnd (st_bind f1 (st_t rfl (st_bnd (st_gd u1 (st_gd u2 (st_gd u3 (st_gd u4 (st_be r1 (st_bind i1 (st_f n_10 rfl)))))))))))))))))))))))))
            · unfold rmo at *
              omega
            · unfold m_sayingTold
              exact st_bnd (st_t z5 (st_gd o41 (st_f m7 (st_t z5 (st_bind m1 (st_bnd (st_bind b1 (st_bind b2 (st_bnd (st_bind g1 (st_bnd (st_bind d1 (st_bind d2 (st_bnd (st_f (nb d3.2.1 hk) rfl)))))))))))))))
        · left
          refine ⟨kd, pl', τ2, 0, sq, ?_, f2.exc (hb.ex (x2.tr y2)), ?_, ⟨?_, (stk.of ((m2.mono (by decide : ∀ k, k ∈ ([2, 4, 34] : List Nat) → k ∈ ([2, 4, 5, 6, 34] : List Nat))).tr ((b3.mono (by decide)).tr g2.1)) (by decide)), g2.2⟩, hk⟩
          · unfold xN2
            exact st_t z1 (st_gd nn (st_gd tc0 (st_gd n5 (st_gd g21 (st_bind hsz (st_bnd (st_f j7 (st_bind most_f (st_t rfl (st_bind x1 (st_t rfl (st_bnd (st_bind y1 (st_t rfl (st_bnd (st_bind f1 (st_f n_10 rfl)))))))))))))))))
          · unfold rmo at *
            omega
          · unfold m_sayingTold
            exact st_bnd (st_t z5 (st_gd o41 (st_f m7 (st_t z5 (st_bind m1 (st_bnd (st_bind b1 (st_bind b2 (st_bnd (st_bind g1 (st_bnd (st_bind (asks_bd g2.2.1 hk) (st_bind (number_bad g2.2.1 hk) (st_bnd (st_f (nb g2.2.1 hk) rfl)))))))))))))))
      · left
        refine ⟨kd, pl', τ2, 0, s2, ?_, y2.exc (hb.ex x2), ?_, ⟨?_, (stk.of ((m2.mono (by decide : ∀ k, k ∈ ([2, 4, 34] : List Nat) → k ∈ ([2, 4, 5, 6, 34] : List Nat))).tr b3.1) (by decide)), b3.2⟩, hk⟩
        · unfold xN2
          exact (st_t z1 (st_gd nn (st_gd tc0 (st_gd n5 (st_gd g21 (st_bind hsz (st_bnd (st_f j7 (st_bind most_f (st_t rfl (st_bind x1 (st_t rfl (st_bnd (st_bind y1 (st_f n_10 rfl))))))))))))))) 
        · unfold rmo at *
          omega
        · unfold m_sayingTold
          exact st_bnd (st_t z5 (st_gd o41 (st_f m7 (st_t z5 (st_bind m1 (st_bnd (st_bind b1 (st_bind b2 (st_bnd (st_bind (number_bad b3.2.1 hk) (st_bnd (st_bind (asks_bd b3.2.1 hk) (st_bind (number_bad b3.2.1 hk) (st_bnd (st_f (nb b3.2.1 hk) rfl)))))))))))))))
    · left
      refine ⟨kd, pl', τ1, 0, s1, ?_, x2.exc hb, x3.mono (by omega) (by omega), ⟨?_, stk.of m2.1 (by decide), m2.2⟩, hk⟩
      · unfold xN2
        exact (st_t z1 (st_gd nn (st_gd tc0 (st_gd n5 (st_gd g21 (st_bind hsz (st_bnd (st_f j7 (st_bind most_f (st_t rfl (st_bind x1 (st_f n_10 rfl))))))))))))
      · unfold m_sayingTold
        exact st_bnd (st_t z5 (st_gd o41 (st_f m7 (st_t z5 (st_bind m1 (st_bnd (st_bind (asks_bd m2.2.1 hk) (st_bind (number_bad m2.2.1 hk) (st_bnd (st_bind (number_bad m2.2.1 hk) (st_bnd (st_bind (asks_bd m2.2.1 hk) (st_bind (number_bad m2.2.1 hk) (st_bnd (st_f (nb m2.2.1 hk) rfl)))))))))))))))
end
