set_option maxRecDepth 100000
/-! LAYER 2: one tone, whole -/
section
variable {τ τ' τ'' : XS} {s s' : MS} {N c a b : Int} {es fs : List Int} {ws vs : List (List Int)}
/-- the rows of earlier days -/
def cdl (s : MS) (k : Int) : Int := cntB (fun r => decide (s 65 (3 * r) < k)) (s 64 0).toNat
theorem cdl_s (s : MS) (k : Int) : cdl s (k + 1) = cdl s k + cntB (fun r => decide (s 65 (3 * r) = k)) (s 64 0).toNat := cntB_lt (fun r => s 65 (3 * r)) k _
theorem TH.gb (h : INV τ s N es fs ws vs) {t t' : XS} {m : MS} (hT : TH τ s N es fs ws vs t m) (e : ∀ y, ¬ (165 < y ∧ y < 176) → t' y = t y) : TH τ s N es fs ws vs t' m := by
  obtain ⟨⟨q1, q2⟩, q3, q4, q5, q6, q7⟩ := hT
  have hn := h.le
  have hq : onQ τ t' := q1.tr (fun y hy => e y (by omega))
  refine ⟨⟨hq, q2⟩, ⟨h.alq hq, ?_, st99, q3.2.2.2.cl (by omega) (fun y y0 y1 => e y (by omega))⟩, q4.kp (fun y y0 y1 => e y (by omega)) (by rw [e 99 (by omega)]) rfl (fun _ _ => rfl), q5, q6, q7⟩
  rw [hq 0 (by omega)]
  exact h.2.2.2.1.kp h.1.1.1 (INV.kpq hq) (stn.of q2 (by decide))
/-- the days past the last one: the reference alone -/
theorem tone_m (h : INV τ s N es fs ws vs) {T : Int} (hT9 : 0 ≤ T ∧ T ≤ 9) (ha : 0 ≤ a ∧ a < ws.length) (K : Int → Int → Int → MS → Option (Int × MS)) : ∀ (d : Nat) (k : Int) (t : XS) (m : MS) (g : Nat) (fit : Int), 0 ≤ k → k + d = 21 → (21 ≤ k ∨ 999 ≤ s 48 0 + k) → d + 1 ≤ g → (fit = 0 ∨ fit = 1) → TH τ s N es fs ws vs t m → m 48 0 = s 48 0 + k → c ≤ cdl s k → (fit = 1 ↔ c = cdl s k) → ∃ t' m' fit', m_laysTones_L37 K g a T fit k m = K a T fit' m' ∧ TH τ s N es fs ws vs t' m' ∧ (fit' = 0 ∨ fit' = 1) ∧ (fit' = 1 ↔ c = s 64 0) ∧ (∀ j : Int, (j < 21 * T + k ∨ 21 * T + 20 < j) → m' 66 j = m 66 j) ∧ m' 67 = m 67 ∧ m' 68 = m 68 := by
  obtain ⟨⟨-, hR⟩, hR2⟩ := h.2.2.2.2.2.2.2.1
  have hd2 := h.2.2.2.2.1.2.2.2
  have en : (((s 64 0).toNat : Nat) : Int) = s 64 0 := by omega
  intro d
  induction d with
  | zero =>
    intro k t m g fit k0 hd hk hg hf hT h48 hc hc2
    cases g with
    | zero => omega
    | succ g =>
      have e21 : cdl s k = s 64 0 := by
        unfold cdl
        rw [cntB_all, en]
        intro r r0 r1
        have := (hR2 r r0 (by omega)).1.2
        exact decide_eq_true (by omega)
      refine ⟨t, m, fit, ?_, hT, hf, by rw [← e21]; exact hc2, fun _ _ => rfl, rfl, rfl⟩
      rw [m_laysTones_L37]
      exact st_t (by rw [show k = 21 by omega]; decide) rfl
  | succ d ih =>
    intro k t m g fit k0 hd hk hg hf hT h48 hc hc2
    cases g with
    | zero => omega
    | succ g =>
      obtain ⟨z, t1, m1, f1, a1, a2, a3, a4, a5, a6, a7, a8, a9, a10, a11, -⟩ := tone_day h hT (k := k) (T := T) (fit := fit) (by omega) hT9 ha hf h48 K g
      obtain ⟨s1, s2⟩ := cntB_sub (p := fun _ => false) (q := fun r => decide (s 65 (3 * r) = k)) (s 64 0).toNat (fun r _ _ q => absurd q (by decide))
      rw [cntB_no _ (fun r _ _ => by decide)] at s1 s2
      have e1 := cdl_s s k
      obtain ⟨t', m', fit', b1, b2, b3, b4, b5, b6, b7⟩ := ih (k + 1) t1 m1 g f1 (by omega) (by omega) (by omega) (by omega) a6 a3 a4 (by omega) ⟨fun q => by
        obtain ⟨q1, q2⟩ := a7.mp q
        have := s2.mpr (fun r r0 r1 q3 => by
          have := (q2 r r0 (by omega) (of_decide_eq_true q3)).1
          omega)
        have := hc2.mp q1
        omega, fun q => a7.mpr ⟨hc2.mpr (by omega), fun r r0 r1 q3 => by
          have := s2.mp (by omega) r r0 (by omega) (decide_eq_true q3)
          exact absurd this (by decide)⟩⟩
      exact ⟨t', m', fit', a2.trans b1, b2, b3, b4, fun j hj => by rw [b5 j (by omega), a9 j (by omega)], by rw [b6, a10], by rw [b7, a11]⟩
/-- both -/
theorem tone_b (h : INV τ s N es fs ws vs) (h46 : s 46 0 = 1) {T M : Int} (hT9 : 0 ≤ T ∧ T ≤ 9) (ha : 0 ≤ a ∧ a < ws.length) (hM : 0 ≤ M ∧ M ≤ 21 ∧ s 48 0 + M ≤ 999 ∧ (M = 21 ∨ s 48 0 + M = 999)) (kx : Int → XS → Option (Int × XS)) (K : Int → Int → Int → MS → Option (Int × MS)) : ∀ (d : Nat) (k : Int) (t : XS) (m : MS) (f g : Nat) (fit c : Int), 0 ≤ k → k + d = M → d + 1 ≤ f → 22 - k + 1 ≤ g → (fit = 0 ∨ fit = 1) → TH τ s N es fs ws vs t m → m 48 0 = s 48 0 + k → (0 ≤ c ∧ c ≤ cdl s k) → (fit = 1 ↔ c = cdl s k) → (∀ j : Int, 0 ≤ j → j < k → t (166 + T) j = m 66 (21 * T + j) ∧ -1 ≤ m 66 (21 * T + j) ∧ m 66 (21 * T + j) ≤ 6) → ∃ c' t' t2 m' fit', x0_canBe_L22 kx f a T c k t = kx c' t' ∧ m_laysTones_L37 K g a T fit k m = K a T fit' m' ∧ ((onQ τ t' ∧ rwR t' 99) ∧ TH τ s N es fs ws vs t2 m') ∧ (fit' = 0 ∨ fit' = 1) ∧ (fit' = 1 ↔ c' = s 64 0) ∧ (0 ≤ c' ∧ c' ≤ 16) ∧ (∀ y : Int, 165 < y → y < 176 → y ≠ 166 + T → t' y = t y) ∧ (∀ j : Int, 0 ≤ j → j < M → t' (166 + T) j = m' 66 (21 * T + j) ∧ -1 ≤ m' 66 (21 * T + j) ∧ m' 66 (21 * T + j) ≤ 6) ∧ (∀ j : Int, (j < 21 * T ∨ 21 * T + 20 < j) → m' 66 j = m 66 j) ∧ m' 67 = m 67 ∧ m' 68 = m 68 := by
  obtain ⟨⟨-, hR⟩, hR2⟩ := h.2.2.2.2.2.2.2.1
  have hn := h.le
  have hd1 := h.2.2.2.2.1.1.1
  have hd2 := h.2.2.2.2.1.2.2.2
  have en : (((s 64 0).toNat : Nat) : Int) = s 64 0 := by omega
  intro d
  induction d with
  | zero =>
    intro k t m f g fit c k0 hd hf hg hfit hT h48 hc hc2 hgb
    cases f with
    | zero => omega
    | succ f =>
      have eM : k = M := by omega
      obtain ⟨t', m', fit', b1, b2, b3, b4, b5, b6, b7⟩ := tone_m (c := c) h hT9 ha K (21 - k).toNat k t m g fit k0 (by omega) (by omega) (by omega) hfit hT h48 hc.2 hc2
      have x3 := ahead_x h hT.1.1 (a := k + 1) (lo := 1) (hi := 21) (by unfold rgI; omega) ⟨by decide, by decide⟩ ⟨by decide, by decide⟩
      have cb := cntB_b (fun r => decide (s 65 (3 * r) < k)) (s 64 0).toNat
      refine ⟨c, t, t', m', fit', ?_, b1, ⟨⟨hT.1.1, hT.wl⟩, b2⟩, b3, b4, ⟨hc.1, by have := hc.2; unfold cdl at this; omega⟩, fun _ _ _ _ => rfl, fun j j0 j1 => by rw [b5 _ (by omega)]; exact hgb j j0 (by omega), fun j hj => b5 j (by omega), b6, b7⟩
      rw [x0_canBe_L22]
      exact st_bind x3 (st_t (z0b (by omega)) rfl)
  | succ d ih =>
    intro k t m f g fit c k0 hd hf hg hfit hT h48 hc hc2 hgb
    cases f with
    | zero => omega
    | succ f =>
      cases g with
      | zero => omega
      | succ g =>
        obtain ⟨z, t1, m1, f1, a1, a2, a3, a4, a5, a6, a7, a8, a9, a10, a11, a12⟩ := tone_day h hT (k := k) (T := T) (fit := fit) (by omega) hT9 ha hfit h48 K g
        have x3 := ahead_x h hT.1.1 (a := k + 1) (lo := 1) (hi := 21) (by unfold rgI; omega) ⟨by decide, by decide⟩ ⟨by decide, by decide⟩
        have ia : i32 a = a := i32_id (by omega) (by omega)
        have ik : i32 k = k := i32_id (by omega) (by omega)
        have iT : i32 T = T := i32_id (by omega) (by omega)
        have oka : ok 6 a := by unfold ok; rw [ia]; omega
        have okk : ok 21 k := by unfold ok; rw [ik]; omega
        have okT : ok 10 T := by unfold ok; rw [iT]; omega
        obtain ⟨t2, et⟩ : ∃ t2, ux t1 (166 + T) k (t1 103 a) = t2 := ⟨_, rfl⟩
        have eu : ux t1 (165 + 1 + i32 T) (i32 k) (t1 103 (i32 a)) = t2 := by rw [iT, ik, ia, ← et]; rfl
        have x1 : ∀ y, y ≠ 166 + T → t2 y = t1 y := fun y n1 => by rw [← et, ux_cell n1]
        have hT2 : TH τ s N es fs ws vs t2 m1 := a3.gb h (fun y hy => x1 y (by omega))
        have hq2 := hT2.1.1
        have e64 : m1 64 = s 64 := a3.1.2 64 (by decide)
        have e65 : m1 65 = s 65 := a3.1.2 65 (by decide)
        have hRW : RWs t2 m1 ws.length vs.length := ⟨h.2.2.2.2.2.2.2.1.kept (by rw [hq2 0 (by omega)]) (fun y y0 y1 => hq2 y (by omega)) e64 e65, fun j j0 j1 => by rw [x1 103 (by omega)]; exact a5 j j0 j1, by omega, by omega⟩
        obtain ⟨s1, s2⟩ := cntB_sub (p := metB m1 k) (q := fun r => decide (s 65 (3 * r) = k)) (s 64 0).toNat (fun r _ _ q => by
          unfold metB at q
          rw [e65] at q
          exact (Bool.and_eq_true _ _ ▸ q).1)
        have s3 := cntB_b (metB m1 k) (s 64 0).toNat
        have e1 := cdl_s s k
        obtain ⟨c', t', t3, m', fit', b1, b2, b3, b4, b5, b6, b7, b8, b9, b10, b11⟩ := ih (k + 1) t2 m1 f g f1 (c + cntB (metB m1 k) (s 64 0).toNat) (by omega) (by omega) (by omega) (by omega) a6 hT2 a4 (by omega) ⟨fun q => by
            obtain ⟨q1, q2⟩ := a7.mp q
            have := s2.mpr (fun r r0 r1 q3 => by
              have q3' := of_decide_eq_true q3
              have := (q2 r r0 (by omega) q3').2
              unfold metB
              rw [e65, decide_eq_true q3', decide_eq_true this]
              rfl)
            have := hc2.mp q1
            omega, fun q => a7.mpr ⟨hc2.mpr (by omega), fun r r0 r1 q3 => ⟨by omega, by
              have q4 := s2.mp (by omega) r r0 (by omega) (decide_eq_true q3)
              unfold metB at q4
              rw [e65] at q4
              exact of_decide_eq_true (Bool.and_eq_true _ _ ▸ q4).2⟩⟩⟩ (fun j j0 j1 => by
            by_cases ej : j = k
            · rw [ej, ← et, ux_s, a8, (a5 a ha.1 ha.2).1]
              exact ⟨rfl, (a5 a ha.1 ha.2).2⟩
            · rw [← et, ux_i _ _ _ _ ej, a12 _ (by omega) (by omega), a9 _ (by omega)]
              exact hgb j j0 (by omega))
        have rx := rows_x hRW (x1 := a) (x2 := T) (k := k) (by omega) (fun (x1_59 : Int) (x2_60 : Int) (x3_61 : Int) (x4_62 : Int) (s63 : XS) => bnd (x4_62 + 1) fun x4_64 => x0_canBe_L22 kx f x1_59 x2_60 x3_61 x4_64 s63) (s 64 0).toNat 0 c FU (by rw [e64]; omega) (by have := FU_ge; omega)
        rw [e64, show cntB (metB m1 k) 0 = 0 from rfl, show c + cntB (metB m1 k) (s 64 0).toNat - 0 = c + cntB (metB m1 k) (s 64 0).toNat by omega] at rx
        refine ⟨c', t', t3, m', fit', ?_, a2.trans b2, b3, b4, b5, b6, fun y y0 y1 y2 => by rw [b7 y y0 y1 y2, x1 y y2, a12 y (by omega) (by omega)], b8, fun j hj => by rw [b9 j hj, a9 j (by omega)], by rw [b10, a10], by rw [b11, a11]⟩
        rw [x0_canBe_L22]
        exact st_bind x3 (st_f (z1b ⟨h46, ⟨by omega, by omega⟩, by omega⟩) (st_bind a1 (st_gd okT (st_gd oka (st_gd okk (st_be eu (st_bnd (rx.trans (st_bnd b1)))))))))
end
