set_option maxRecDepth 100000
/-! LAYER 2: one tone, tried over the days that are soon -/
section
variable {τ τ' τ'' : XS} {s s' : MS} {N c a b : Int} {es fs : List Int} {ws vs : List (List Int)}
theorem TH.kp {ks : List Nat} {t : XS} {m m' : MS} (hT : TH τ s N es fs ws vs t m) (o : only ks m m') (h1 : ∀ k ∈ ks, k ∈ qfk ∧ k ≠ 49) : TH τ s N es fs ws vs t m' := by
  obtain ⟨⟨q1, q2⟩, q3, q4, q5, q6, q7⟩ := hT
  have n48 : (48 : Nat) ∉ ks := fun q => absurd (h1 48 q).1 (by decide)
  have n49 : (49 : Nat) ∉ ks := fun q => absurd rfl (h1 49 q).2
  have n60 : (60 : Nat) ∉ ks := fun q => absurd (h1 60 q).1 (by decide)
  have e48 := o 48 n48
  refine ⟨⟨q1, q2.tr (o.mono (fun k hk => by unfold thk; exact List.mem_cons_of_mem _ (List.mem_cons_of_mem _ (h1 k hk).1)))⟩, q3.lx lox.rf (stn.of o (fun k hk q => ?_)) e48, q4.kp (fun _ _ _ => rfl) rfl (o 60 n60) (fun j _ => by rw [e48]), by rw [o 60 n60]; exact q5, fun j j0 j1 => by rw [o 49 n49]; exact q6 j j0 j1, fun j hj => by rw [e48]; exact q7 j hj⟩
  have d : ∀ k ∈ ([35, 36, 37, 39, 41, 42, 43, 46] : List Nat), k ∉ qfk := by decide
  exact d k hk (h1 k q).1
/-- a tone is set, in thought -/
theorem TH.tn (h : INV τ s N es fs ws vs) {t : XS} {m : MS} (hT : TH τ s N es fs ws vs t m) {o v1 : Int} (ho : 0 ≤ o ∧ o < ws.length) (hv1 : 0 ≤ v1 ∧ v1 ≤ 9) : TH τ s N es fs ws vs (ux t 102 o v1) (up m 48 (8 + 10 * o + 2) v1) := by
  obtain ⟨⟨q1, q2⟩, q3, q4, q5, q6, q7⟩ := hT
  have hn := h.le
  obtain ⟨t', et⟩ : ∃ t', ux t 102 o v1 = t' := ⟨_, rfl⟩
  obtain ⟨m', em⟩ : ∃ m', up m 48 (8 + 10 * o + 2) v1 = m' := ⟨_, rfl⟩
  have x1 : ∀ y, y ≠ 102 → t' y = t y := fun y n1 => by rw [← et, ux_cell n1]
  have x2 : ∀ j, t' 102 j = if j = o then v1 else t 102 j := fun j => by
    rw [← et]
    by_cases e : j = o
    · rw [if_pos e, e, ux_s]
    · rw [if_neg e, ux_i _ _ _ _ e]
  have oo : only [48] m m' := by rw [← em]; exact only.up (by decide)
  have y2 : m' 48 (8 + 10 * o + 2) = v1 := by rw [← em, up_s]
  have ym : ∀ j, j ≠ 8 + 10 * o + 2 → m' 48 j = m 48 j := fun j n1 => by rw [← em, up_i _ _ _ _ n1]
  have hq : onQ τ t' := q1.tr (fun y hy => x1 y (by omega))
  rw [et, em]
  refine ⟨⟨hq, q2.tr (oo.mono (by decide))⟩, ⟨h.alq hq, ?_, st99, ?_⟩, q4.kp (fun y _ _ => x1 y (by omega)) (by rw [x1 99 (by decide)]) (oo 60 (by decide)) (fun j hj => ym j (by omega)), by rw [oo 60 (by decide)]; exact q5, fun j j0 j1 => by rw [oo 49 (by decide)]; exact q6 j j0 j1, fun j hj => by rw [ym j (by omega)]; exact q7 j hj⟩
  · rw [hq 0 (by omega)]
    exact h.2.2.2.1.kp h.1.1.1 (INV.kpq hq) (stn.of (q2.tr (oo.mono (show ∀ k ∈ [48], k ∈ thk by decide))) (by decide))
  · have hs := q3.2.2.2
    have e99 := x1 99 (by decide)
    refine hs.new (by rw [e99]) (by rw [e99]) (fun j j0 j1 => ym j (by omega)) (by omega) (fun j j0 j1 => ?_) (fun j j0 j1 => ?_) (fun j j0 j1 => ?_) (fun j j0 j1 => x1 _ (by omega)) (fun j u j0 j1 u0 u1 => ym _ (by omega))
    · rw [x1 _ (by decide), ym _ (by omega)]; exact (hs.2.2 j j0 j1).1
    · rw [x1 _ (by decide), ym _ (by omega)]; exact (hs.2.2 j j0 j1).2.1
    · rw [show (99 + 3 : Int) = 102 by decide, x2 j]
      by_cases e : j = o
      · rw [if_pos e, e, y2]; omega
      · rw [if_neg e, ym _ (by omega)]; exact (hs.2.2 j j0 j1).2.2.1
/-- a row was met -/
def gdR (s : MS) (g : Int → Int) (k r : Int) : Prop := s 65 (3 * r) = k → s 48 0 + k + 1 ≤ 999 ∧ g (s 65 (3 * r + 1)) = s 65 (3 * r + 2)
/-- one day of one tone -/
theorem tone_day (h : INV τ s N es fs ws vs) {t : XS} {m : MS} (hT : TH τ s N es fs ws vs t m) {k T fit : Int} (hk : 0 ≤ k ∧ k ≤ 20) (hT9 : 0 ≤ T ∧ T ≤ 9) (ha : 0 ≤ a ∧ a < ws.length) (hf : fit = 0 ∨ fit = 1) (h48 : m 48 0 = s 48 0 + k) (K : Int → Int → Int → MS → Option (Int × MS)) (g : Nat) : ∃ z t1 m2 fit', x7_passes 99 t = some (z, t1) ∧ m_laysTones_L37 K (g + 1) a T fit k m = m_laysTones_L37 K g a T fit' (k + 1) m2 ∧ TH τ s N es fs ws vs t1 m2 ∧ m2 48 0 = s 48 0 + (k + 1) ∧ (∀ j : Int, 0 ≤ j → j < ws.length → t1 103 j = m2 62 j ∧ -1 ≤ m2 62 j ∧ m2 62 j ≤ 6) ∧ (fit' = 0 ∨ fit' = 1) ∧ (fit' = 1 ↔ fit = 1 ∧ ∀ r : Int, 0 ≤ r → r < s 64 0 → gdR s (m2 62) k r) ∧ m2 66 (21 * T + k) = m2 62 a ∧ (∀ j : Int, j ≠ 21 * T + k → m2 66 j = m 66 j) ∧ m2 67 = m 67 ∧ m2 68 = m 68 ∧ onD 99 t t1 := by
  have hn := h.le
  have hd0 := h.2.2.2.2.1.1.1
  have hd2 := h.2.2.2.2.1.2.2.2
  obtain ⟨⟨-, hR⟩, hR2⟩ := h.2.2.2.2.2.2.2.1
  obtain ⟨z, t1, m1, a1, a2, a3, a4, -, a6, a7, a8⟩ := th_day hT (by omega)
  have e64 : m1 64 = s 64 := a3.1.2 64 (by decide)
  have e65 : m1 65 = s 65 := a3.1.2 65 (by decide)
  have hG : ∀ r, gdR s (m1 62) k r ↔ (m1 65 (3 * r) = k → m1 48 0 ≤ 999 ∧ m1 62 (m1 65 (3 * r + 1)) = m1 65 (3 * r + 2)) := fun r => by
    unfold gdR
    rw [e65, a6, h48]
  obtain ⟨b, b1, b2, b3⟩ := rows_m (m := m1) (n := ws.length) (v := vs.length) (by rw [e64, e65]; exact ⟨hR, fun k k0 k1 => ⟨(hR2 k k0 k1).1.2, (hR2 k k0 k1).2.1.2, (hR2 k k0 k1).2.2.2⟩⟩) (fun j j0 j1 => (a4 j j0 j1).2) (by omega) (by omega) (by omega) (k := k) (by omega) (gdR s (m1 62) k) hG (s 64 0).toNat 0 FU (by omega) (by rw [e64]; omega) (by have := FU_ge; omega) (fun j j0 j1 => by omega)
  rw [e64] at b3
  obtain ⟨m2, em⟩ : ∃ m2, up m1 66 (21 * T + k) (m1 62 a) = m2 := ⟨_, rfl⟩
  have oo : only [66] m1 m2 := by rw [← em]; exact only.up (by decide)
  have e62 : m2 62 = m1 62 := oo 62 (by decide)
  have ia : i32 a = a := i32_id (by omega) (by omega)
  have ip : i32 (21 * T + k) = 21 * T + k := i32_id (by omega) (by omega)
  have oka : ok 6 a := by unfold ok; rw [ia]; omega
  have okp : ok 210 (21 * T + k) := by unfold ok; rw [ip]; omega
  have eu : up m1 66 (i32 (21 * T + k)) (m1 62 (i32 a)) = m2 := by rw [ip, ia]; exact em
  have n20 : ¬ i32 20 < i32 k := by rw [i32_id (by omega) (by omega), i32_id (by omega) (by omega)]; omega
  have last : TH τ s N es fs ws vs t1 m2 ∧ m2 48 0 = s 48 0 + (k + 1) ∧ (∀ j : Int, 0 ≤ j → j < ws.length → t1 103 j = m2 62 j ∧ -1 ≤ m2 62 j ∧ m2 62 j ≤ 6) := ⟨a3.kp oo (by decide), by rw [oo 48 (by decide)]; omega, by rw [e62]; exact a4⟩
  have tail : m2 66 (21 * T + k) = m2 62 a ∧ (∀ j : Int, j ≠ 21 * T + k → m2 66 j = m 66 j) ∧ m2 67 = m 67 ∧ m2 68 = m 68 ∧ onD 99 t t1 := ⟨by rw [e62, ← em, up_s], fun j hj => by rw [← em, up_i _ _ _ _ hj, a7 66 (by decide)], by rw [oo 67 (by decide), a7 67 (by decide)], by rw [oo 68 (by decide), a7 68 (by decide)], a8⟩
  have seen : m_isAsSeen k m1 = some (b, m1) := by unfold m_isAsSeen; exact st_bnd b1
  by_cases q1 : fit = 0
  · refine ⟨z, t1, m2, 0, a1, ?_, last.1, last.2.1, last.2.2, Or.inl rfl, ⟨fun q => by omega, fun q => by omega⟩, tail⟩
    rw [m_laysTones_L37]
    exact st_f n20 (st_bind a2 (st_bnd (st_bnd (st_t (by rw [q1]; exact i32_0) (st_gd oka (st_gd okp (st_be eu (st_bnd rfl))))))))
  · have f1 : fit = 1 := by omega
    have nf : ¬ i32 fit = 0 := by rw [f1]; exact n10
    by_cases q2 : b = 0
    · refine ⟨z, t1, m2, 0, a1, ?_, last.1, last.2.1, last.2.2, Or.inl rfl, ⟨fun q => by omega, fun q => ?_⟩, tail⟩
      · rw [m_laysTones_L37]
        exact st_f n20 (st_bind a2 (st_bnd (st_bnd (st_f nf (st_bind seen (st_t (by rw [q2]; exact i32_0) (st_gd oka (st_gd okp (st_be eu (st_bnd rfl))))))))))
      · have := b3.mpr (by rw [← e62]; exact q.2)
        omega
    · have hb1 : b = 1 := by omega
      refine ⟨z, t1, m2, 1, a1, ?_, last.1, last.2.1, last.2.2, Or.inr rfl, ⟨fun q => ⟨f1, by rw [e62]; exact b3.mp hb1⟩, fun q => rfl⟩, tail⟩
      rw [m_laysTones_L37]
      exact st_f n20 (st_bind a2 (st_bnd (st_bnd (st_f nf (st_bind seen (st_f (by rw [hb1]; exact n10) (st_gd oka (st_gd okp (st_be eu (st_bnd rfl))))))))))
end
