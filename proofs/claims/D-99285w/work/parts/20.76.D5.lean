set_option maxRecDepth 100000
/-! LAYER 2: a day, of both, joined -/
section
variable {τ τ' : XS} {s s' : MS} {N c : Int} {es fs : List Int} {ws vs : List (List Int)} {a u : Int}
/-- what a day leaves -/
def DyR (τ : XS) (s : MS) (N c : Int) (es fs : List Int) (ws vs : List (List Int)) (z : Int) (τ' : XS) (s' : MS) : Prop :=
  (onD c τ τ' ∧ only dyk s s') ∧ RLc τ' s' N c es fs ws vs ∧ STk τ' s' c ∧ (∀ j : Int, 0 ≤ j → j < ws.length → τ' (c + 4) j = s' 62 j ∧ -1 ≤ s' 62 j ∧ s' 62 j ≤ 6) ∧ (0 ≤ z ∧ z ≤ 6 ∧ s' 61 0 = s 61 0 + z) ∧ s' 48 0 = s 48 0 + 1 ∧ τ' c 1 = τ c 1 ∧ (s 60 0 = 1 → ∀ j : Int, 68 ≤ j → s' 48 j = s 48 j)
theorem day_end {t : XS} {m : MS} {z : Int} (hc : isSt c) (G : onD c τ t) (O : only dyk s m) (h : RLc t m N c es fs ws vs) (k : STk t m c) (hg : ∀ j : Int, 0 ≤ j → j < ws.length → t (c + 4) j = m 62 j ∧ -1 ≤ m 62 j ∧ m 62 j ≤ 6) (hz : 0 ≤ z ∧ z ≤ 6 ∧ m 61 0 = s 61 0 + z) (hd : m 48 0 = s 48 0 ∧ s 48 0 ≤ 4999) (h1 : t c 1 = τ c 1) (hq : s 60 0 = 1 → ∀ j : Int, 68 ≤ j → m 48 j = s 48 j) : DyR τ s N c es fs ws vs z (ux t c 0 (t c 0 + 1)) (up m 48 0 (m 48 0 + 1)) := by
  have hb := isSt_b hc
  obtain ⟨hal, hS, -, hst⟩ := id h
  have cc : ∀ y, y ≠ c → ux t c 0 (t c 0 + 1) y = t y := fun y hy => ux_cell hy
  have G2 : onG c t (ux t c 0 (t c 0 + 1)) := onG.rf.ux (by omega)
  have o2 : only [48] m (up m 48 0 (m 48 0 + 1)) := only.up (by decide)
  have w : ∀ j : Int, j ≠ 0 → up m 48 0 (m 48 0 + 1) 48 j = m 48 j := fun j hj => up_i _ _ _ _ hj
  have w0 : up m 48 0 (m 48 0 + 1) 48 0 = m 48 0 + 1 := by rw [up_s]
  refine ⟨⟨G.tr (onD.og G2), O.tr (o2.mono (by unfold dyk; intro k; simp; omega))⟩, ⟨G2.alk hc hal, G2.scr hc hal hS (stn.of o2 (by decide)), hc, ?_⟩, ?_, fun j j0 j1 => ?_, ⟨hz.1, hz.2.1, ?_⟩, by rw [w0, hd.1], ?_, fun q j hj => by rw [w j (by omega)]; exact hq q j hj⟩
  · unfold stR
    rw [w0, cc _ (show c + 1 ≠ c by omega), cc _ (show c + 2 ≠ c by omega), cc _ (show c + 3 ≠ c by omega), ux_s, ux_i _ _ _ _ (show (1 : Int) ≠ 0 by decide)]
    refine ⟨⟨by rw [hst.1.1], by rw [hd.1]; have := hst.1.2.1; omega, by omega⟩, ⟨hst.2.1.1, hst.2.1.2.1, fun o h0 h1 => by rw [w _ (by omega)]; exact hst.2.1.2.2 o h0 h1⟩, fun o h0 h1 => ?_⟩
    rw [w _ (by omega), w _ (by omega), w _ (by omega), cc _ (by omega)]
    refine ⟨(hst.2.2 o h0 h1).1, (hst.2.2 o h0 h1).2.1, (hst.2.2 o h0 h1).2.2.1, fun x x0 x1 => ?_⟩
    rw [w _ (by omega)]
    exact (hst.2.2 o h0 h1).2.2.2 x x0 x1
  · exact k.kp (fun y h1 h2 => cc y (by omega)) (by rw [ux_i _ _ _ _ (by decide)]) (o2 60 (by decide)) (fun j hj => w j (by omega))
  · rw [cc _ (by omega), o2 62 (by decide)]; exact hg j j0 j1
  · rw [o2 61 (by decide)]; exact hz.2.2
  · rw [ux_i _ _ _ _ (by decide)]; exact h1
theorem day_ok (h : RLc τ s N c es fs ws vs) (hk : STk τ s c) (hd : s 48 0 ≤ 4999) : ∃ z τ' s', x7_passes c τ = some (z, τ') ∧ m_dayGoes s = some (0, s') ∧ DyR τ s N c es fs ws vs z τ' s' := by
  obtain ⟨hal, hS, hc, hst⟩ := id h
  have hb := isSt_b hc
  obtain ⟨-, ⟨⟨-, hn, h36⟩, -, hv, h37⟩, -⟩ := id hS
  obtain ⟨s1, m1, m2, m3⟩ := none_ev (s := s)
  have h01 : RLc τ s1 N c es fs ws vs := h.lx lox.rf (stn.of m2 (by decide)) (m2 48 (by decide))
  -- the reference's giving does not hang on the round
  obtain ⟨l0, t0, -, -, y1, -, ⟨y3, -⟩, -⟩ := round_ok h
  have ht1 : RLc t0 s1 N c es fs ws vs := h01.lx y3 stn.rf rfl
  obtain ⟨s2, n1, n2, n3, -, -⟩ := by_m ht1
  have h02 : RLc τ s2 N c es fs ws vs := h01.lx lox.rf (stn.of n2 (by decide)) (n2 48 (by decide))
  obtain ⟨l, t1, s3, D, r1, r2, ⟨r3, r4⟩, r5, r6, r7, ⟨r8, r9⟩, r10, r11⟩ := round_ok h02
  have e10 : t0 = t1 := by rw [y1] at r1; cases r1; rfl
  rw [e10] at ht1 n3
  have hds := r10 s3 (r4 36 (by decide)) (r4 48 (by decide)) (r4 35 (by decide)) rfl
  obtain ⟨t2, b1, b2, b3, b4, b5⟩ := by_x ht1
  have L2 : lox τ t2 := r3.tr b2
  have o3 : only dyk s s3 := ((m2.mono (by unfold dyk; intro k; simp; omega)).tr (n2.mono (by unfold dyk lgk; intro k; simp; omega))).tr (r4.mono (by unfold dyk; intro k; simp; omega))
  have s348 : s3 48 = s 48 := by rw [r4 48 (by decide), n2 48 (by decide), m2 48 (by decide)]
  have s362 : s3 62 = s1 62 := by rw [r4 62 (by decide), n2 62 (by decide)]
  have s361 : s3 61 = s 61 := by rw [r4 61 (by decide), n2 61 (by decide), m2 61 (by decide)]
  have s360 : s3 60 = s 60 := by rw [r4 60 (by decide), n2 60 (by decide), m2 60 (by decide)]
  have h23 : RLc t2 s3 N c es fs ws vs := h.lx L2 (stn.of o3 (by decide)) s348
  have k23 : STk t2 s3 c := hk.lx hc L2 s360 s348
  have fu := FU_s
  have t2c : t2 c = τ c := L2 c (by omega)
  cases hbv : gvF ws.length vs.length (cnX c t1) (wlX c t1) (skV vs.length (t1 c 1)) with
  | none =>
    rw [hbv] at n3 b4
    have x5 : t2 19 5 = 0 := b4
    have s55 : s3 55 0 = 0 := by rw [r4 55 (by decide)]; exact n3
    obtain ⟨t3, a1, a2, a3, a4⟩ := day_no (s := s3) D (fun (x3_34 : Int) (s35 : XS) => bnd (ux s35 c 0 ((s35 c 0) + 1)) fun s36 => some (x3_34, s36)) 0 ws.length 0 t2 FU (by omega) (by omega) h23 (fun j j0 j1 => by omega) (by have := FU_ge; omega)
    have G3 : onG c t2 t3 := fun y q1 q2 => a3 y (by omega)
    have k3 : STk t3 s3 c := k23.kp (fun y q1 q2 => a3 y (by omega)) (by rw [a3 c (by omega)]) rfl (fun _ _ => rfl)
    refine ⟨0, ux t3 c 0 (t3 c 0 + 1), up s3 48 0 (s3 48 0 + 1), ?_, ?_, day_end hc ((onD.lx L2).tr (onD.og G3)) o3 a2 k3 (fun j j0 j1 => ?_) ⟨by omega, by omega, by rw [s361]; omega⟩ ⟨by rw [s348], hd⟩ (by rw [a3 c (by omega), t2c]) (fun _ j _ => by rw [s348])⟩
    · unfold x7_passes
      exact st_gd hc (st_bind r1 (st_gd rfl (st_bind r8 (st_bnd (st_bind b1 (st_gd rfl (st_be x5 (st_bnd (st_bnd (a1.trans (st_bnd rfl)))))))))))
    · unfold m_dayGoes
      refine st_bind m1 (st_bind n1 (st_bind r2 (st_bind hds (st_bnd (st_bnd ?_)))))
      obtain ⟨f, hf⟩ := fu
      rw [hf, m_dayGoes_L19]
      have s336 : s3 36 2 = ws.length := by rw [o3 36 (by decide)]; exact h36
      have z55 : i32 (s3 55 0) = 0 := by rw [s55]; exact i32_0
      refine st_bind (sayMany_ev s336) ?_
      have fin : (gd (ok 219 0) <| gd (ok 219 0) <| bnd (up s3 48 (i32 0) ((s3 48 (i32 0)) + 1)) fun s25 => some ((0 : Int), s25)) = some (0, up s3 48 0 (s3 48 0 + 1)) := st_gd (by decide) (st_gd (by decide) (st_bnd (by rw [i32_0])))
      by_cases q : i32 (ws.length : Int) ≤ i32 0
      · exact st_t q fin
      · exact st_f q (st_t z55 fin)
    · rw [a4 j j0 j1, s362, m3 j j0 (by omega)]; omega
  | some r =>
    rw [hbv] at n3 b4
    obtain ⟨x1, x2, x3, x4⟩ := b4
    obtain ⟨w1, w2, w3, w4⟩ := n3
    have s55 : s3 55 0 = 1 := by rw [r4 55 (by decide)]; exact w1
    obtain ⟨z', t3, s4, a1, a2, ⟨a3, a4⟩, a5, a6, a7, a8, a9, a10⟩ := day_go (N := N) (es := es) (fs := fs) (c := c) D r9 r x4 (fun (x3_34 : Int) (s35 : XS) => bnd (ux s35 c 0 ((s35 c 0) + 1)) fun s36 => some (x3_34, s36)) (fun (s22 : MS) => gd (ok 219 0) <| gd (ok 219 0) <| bnd (up s22 48 (i32 0) ((s22 48 (i32 0)) + 1)) fun s25 => some (0, s25)) ws.length 0 0 t2 s3 FU FU (by omega) (by omega) (by omega) h23 k23 x3 (w3.of (r4 54 (by decide))) s55 (fun j j0 j1 => by omega) (fun j j0 j1 => by rw [s362]; exact m3 j j0 j1) (by have := FU_ge; omega) (by have := FU_ge; omega)
    have o4 : only dyk s s4 := o3.tr (a4.mono (by unfold dyk gvk; intro k; simp; omega))
    have d4 : s4 48 0 = s 48 0 := by
      have q1 := a5.2.2.2.1.1
      have q2 := hst.1.1
      rw [a9 0 (by decide), t2c, q2] at q1
      exact q1.symm
    refine ⟨z', ux t3 c 0 (t3 c 0 + 1), up s4 48 0 (s4 48 0 + 1), ?_, ?_, day_end hc ((onD.lx L2).tr (onD.og a3)) o4 a5 a6 a7 ⟨by omega, by omega, by rw [a8.2.2, s361]; omega⟩ ⟨d4, hd⟩ (by rw [a9 1 (by decide), t2c]) (fun q j hj => by rw [a10 (by rw [s360]; exact q) j hj, s348])⟩
    · unfold x7_passes
      exact st_gd hc (st_bind r1 (st_gd rfl (st_bind r8 (st_bnd (st_bind b1 (st_gd rfl (st_be x1 (st_bnd (st_bnd (a1.trans (st_bnd rfl)))))))))))
    · unfold m_dayGoes
      refine st_bind m1 (st_bind n1 (st_bind r2 (st_bind hds (st_bnd (st_bnd (a2.trans (st_gd (by decide) (st_gd (by decide) (st_bnd ?_)))))))))
      rw [i32_0]
end
