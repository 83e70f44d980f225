set_option maxRecDepth 100000
/-! LAYER 2: what can be taken and how well, laid by both; the sack -/
/-- only standing cells of searches have changed -/
def lox (τ τ' : XS) : Prop := ∀ y, (y < 10 ∨ 35 < y ∨ y = 11 ∨ y = 12 ∨ y = 13) → τ' y = τ y
theorem lox.rf {τ : XS} : lox τ τ := fun _ _ => rfl
theorem lox.tr {τ τ1 τ2 : XS} (h : lox τ τ1) (h2 : lox τ1 τ2) : lox τ τ2 := fun y hy => (h2 y hy).trans (h y hy)
theorem lox.of {cs : List Int} {τ τ' : XS} (h : onx cs τ τ') (hc : ∀ y ∈ cs, (10 ≤ y ∧ y ≤ 35) ∧ y ≠ 11 ∧ y ≠ 12 ∧ y ≠ 13) : lox τ τ' := fun y hy => h y fun q => by have := hc y q; omega
theorem lox.ux {τ τ' : XS} (h : lox τ τ') {y i x : Int} (hy : 14 ≤ y ∧ y ≤ 35) : lox τ (ux τ' y i x) := fun w hw => by rw [ux_cell (by omega)]; exact h w hw
theorem lox.al {τ τ' : XS} (h : lox τ τ') (ha : al τ) : al τ' := by
  have eN := h (-1) (by omega)
  refine ⟨by rw [eN]; exact ha.1, by rw [eN]; exact ha.2.1, fun y hy => ?_⟩
  rw [eN] at hy
  rw [h y (by have := ha.1; omega)]
  exact ha.2.2 y hy
theorem lox.kps {τ τ' : XS} (h : lox τ τ') : kps τ τ' := ⟨by rw [h (-1) (by omega)]; exact Int.le_refl _, fun y hy _ => h y (by unfold fre at hy; omega)⟩
/-- what holds of both when laws are asked of the state at c -/
def RLc (τ : XS) (s : MS) (N c : Int) (es fs : List Int) (ws vs : List (List Int)) : Prop := al τ ∧ SCR τ s N (τ 0 0) es fs ws vs ∧ isSt c ∧ stR τ c (s 48) ws.length vs.length
noncomputable def cnX (c : Int) (τ : XS) (a u : Int) : Bool := match x7_can c a u τ with
  | some z => decide (z.1 = 1)
  | none => false
noncomputable def wlX (c : Int) (τ : XS) (a u : Int) : Int := match x7_well (x_at 64) c a u τ with
  | some z => z.1
  | none => 0
theorem b01_b2 {b : Int} (h : b01 b) : b2i (decide (b = 1)) = b := by rcases h with rfl | rfl <;> decide
section
variable {τ τ' : XS} {s s' : MS} {N c : Int} {es fs : List Int} {ws vs : List (List Int)} {a u : Int}
theorem stR.lx {n v : Int} {w : Int → Int} (h : stR τ c w n v) (hc : isSt c) (hl : lox τ τ') : stR τ' c w n v := by
  have hb := isSt_b hc
  unfold stR
  rw [hl c (by omega)]
  refine ⟨h.1, h.2.1, fun o h0 h1 => ?_⟩
  rw [hl (c + 1) (by omega), hl (c + 2) (by omega), hl (c + 3) (by omega), hl (c + 5 + 1 + o) (by omega)]
  exact h.2.2 o h0 h1
theorem RLc.lx (h : RLc τ s N c es fs ws vs) (hl : lox τ τ') (hs : stn s s') (h48 : s' 48 = s 48) : RLc τ' s' N c es fs ws vs := by
  obtain ⟨h1, h2, h3, h4⟩ := h
  refine ⟨hl.al h1, ?_, h3, by rw [h48]; exact h4.lx h3 hl⟩
  rw [hl 0 (by omega)]
  exact h2.kp h1 hl.kps hs
theorem lox10 (h : onx [10] τ τ') : lox τ τ' := lox.of h (by simp)
theorem stn4 (h : only [47, 50, 102, 103] s s') : stn s s' := stn.of h (by decide)
theorem can_x (h : RLc τ s N c es fs ws vs) (h' : RLc τ' s N c es fs ws vs) (ha : 0 ≤ a ∧ a < ws.length) (hu : 0 ≤ u ∧ u < vs.length) : ∃ τ1, x7_can c a u τ' = some (b2i (cnX c τ a u), τ1) ∧ onx [10] τ' τ1 := by
  obtain ⟨b, t1, s1, a1, a2, a3, a4, a5⟩ := can_ok h.2.1 h.2.2.1 h.2.2.2 ha hu
  obtain ⟨b', t2, s2, d1, d2, d3, d4, d5⟩ := can_ok h'.2.1 h'.2.2.1 h'.2.2.2 ha hu
  rw [a2] at d2
  cases d2
  refine ⟨t2, ?_, d3⟩
  unfold cnX
  rw [a1]
  dsimp only
  rw [b01_b2 a5]
  exact d1
theorem can_m (h : RLc τ s N c es fs ws vs) (h' : RLc τ s' N c es fs ws vs) (ha : 0 ≤ a ∧ a < ws.length) (hu : 0 ≤ u ∧ u < vs.length) : ∃ s1, m_canTake a u s' = some (b2i (cnX c τ a u), s1) ∧ only [47, 50, 102, 103] s' s1 := by
  obtain ⟨b', t2, s2, d1, d2, d3, d4, d5⟩ := can_ok h'.2.1 h'.2.2.1 h'.2.2.2 ha hu
  refine ⟨s2, ?_, d4⟩
  unfold cnX
  rw [d1]
  dsimp only
  rw [b01_b2 d5]
  exact d2
theorem well_x {m : Nat} (hm : 21 ≤ m) (h : RLc τ s N c es fs ws vs) (h' : RLc τ' s N c es fs ws vs) (ha : 0 ≤ a ∧ a < ws.length) (hu : 0 ≤ u ∧ u < vs.length) : ∃ τ1, x7_well (x_at m) c a u τ' = some (wlX c τ a u, τ1) ∧ onx [10] τ' τ1 ∧ bd1 (wlX c τ a u) := by
  obtain ⟨b, t1, s1, a1, a2, a3, a4, a5⟩ := well_ok (m := 64) (by decide) h.2.1 h.2.2.1 h.2.2.2 ha hu
  obtain ⟨b', t2, s2, d1, d2, d3, d4, d5⟩ := well_ok hm h'.2.1 h'.2.2.1 h'.2.2.2 ha hu
  rw [a2] at d2
  cases d2
  have e : wlX c τ a u = b := by unfold wlX; rw [a1]
  rw [e]
  exact ⟨t2, d1, d3, a5⟩
theorem well_m (h : RLc τ s N c es fs ws vs) (h' : RLc τ s' N c es fs ws vs) (ha : 0 ≤ a ∧ a < ws.length) (hu : 0 ≤ u ∧ u < vs.length) : ∃ s1, m_wellOf a u s' = some (wlX c τ a u, s1) ∧ only [47, 50, 102, 103] s' s1 ∧ bd1 (wlX c τ a u) := by
  obtain ⟨b', t2, s2, d1, d2, d3, d4, d5⟩ := well_ok (m := 64) (by decide) h'.2.1 h'.2.2.1 h'.2.2.2 ha hu
  have e : wlX c τ a u = b' := by unfold wlX; rw [d1]
  rw [e]
  exact ⟨s2, d2, d4, d5⟩
/-- the tables as they grow -/
def xgP (τ : XS) (n nv : Int) (cn : Int → Int → Bool) (wl : Int → Int → Int) (o v : Int) : Prop := ∀ p q : Int, 0 ≤ p → p < n → 0 ≤ q → q < nv → (p < o ∨ (p = o ∧ q < v)) → τ (20 + 1 + p) q = b2i (cn p q) ∧ τ (27 + 1 + p) q = wl p q ∧ bd1 (wl p q)
theorem by_go (h : RLc τ s N c es fs ws vs) (K : XS → Option (Int × XS)) : ∃ τ', x6_by_L2 c K FU 0 τ = K τ' ∧ lox τ τ' ∧ xgR τ' ws.length vs.length (cnX c τ) (wlX c τ) := by
  obtain ⟨-, ⟨⟨-, hn, -⟩, -, hv, -⟩, -⟩ := h.2.1
  obtain ⟨τ', ⟨q1, q2⟩, q3⟩ := for0 (fun f i t => x6_by_L2 c K f i t) K ws.length (fun i t => lox τ t ∧ xgP t ws.length vs.length (cnX c τ) (wlX c τ) i 0) (by omega) (by omega)
    (fun i t hI h0 hi => by
      obtain ⟨g1, g2⟩ := hI
      have ii : i32 i = i := i32_id (by omega) (by omega)
      have oki : ok 6 i := by unfold ok; rw [ii]; omega
      obtain ⟨t', ⟨p1, p2⟩, p3⟩ : ∃ t', (lox τ t' ∧ xgP t' ws.length vs.length (cnX c τ) (wlX c τ) i vs.length) ∧ ∀ K', x6_by_L15 c K' FU i 0 t = K' i t' := by
        have inner : ∀ (d : Nat) (v : Int) (t : XS), 0 ≤ v → v + d = vs.length → lox τ t → xgP t ws.length vs.length (cnX c τ) (wlX c τ) i v → ∃ t', (lox τ t' ∧ xgP t' ws.length vs.length (cnX c τ) (wlX c τ) i vs.length) ∧ ∀ (K' : Int → XS → Option (Int × XS)) (fuel : Nat), d < fuel → x6_by_L15 c K' fuel i v t = K' i t' := by
          intro d
          induction d with
          | zero =>
            intro v t h0v hd g1 g2
            have ht := h.lx g1 stn.rf rfl
            refine ⟨t, ⟨g1, by rw [show v = ((vs.length : Nat) : Int) by omega] at g2; exact g2⟩, fun K' fuel hf => ?_⟩
            obtain ⟨g, rfl⟩ : ∃ g, fuel = g + 1 := ⟨fuel - 1, by omega⟩
            rw [x6_by_L15]
            refine st_bind (verbs_ev ht.2.1.cty) (st_t ?_ rfl)
            dsimp only
            rw [i32_id (by omega) (by omega), i32_id (by omega) (by omega)]
            omega
          | succ d ih =>
            intro v t h0v hd g1 g2
            have ht := h.lx g1 stn.rf rfl
            have iv : i32 v = v := i32_id (by omega) (by omega)
            have okv : ok 7 v := by unfold ok; rw [iv]; omega
            obtain ⟨t1, a1, a2⟩ := can_x h ht (a := i) (u := v) (by omega) (by omega)
            have bzb : bz (b2i (cnX c τ i v)) := by cases cnX c τ i v <;> decide
            obtain ⟨t2, e2⟩ : ∃ t2, ux t1 (20 + 1 + i) v (b2i (cnX c τ i v)) = t2 := ⟨_, rfl⟩
            have l2 : lox τ t2 := by rw [← e2]; exact (g1.tr (lox10 a2)).ux (by omega)
            obtain ⟨t3, b1, b2, b3⟩ := well_x (m := 64) (by decide) h (h.lx l2 stn.rf rfl) (a := i) (u := v) (by omega) (by omega)
            obtain ⟨t4, e4⟩ : ∃ t4, ux t3 (27 + 1 + i) v (wlX c τ i v) = t4 := ⟨_, rfl⟩
            have l4 : lox τ t4 := by rw [← e4]; exact (l2.tr (lox10 b2)).ux (by omega)
            have G4 : xgP t4 ws.length vs.length (cnX c τ) (wlX c τ) i (v + 1) := fun p q p0 p1 q0 q1 hpq => by
              have t31 : ∀ y, y ≠ 10 → t3 y = t2 y := fun y hy => b2 y (by simpa using hy)
              have t10 : ∀ y, y ≠ 10 → t1 y = t y := fun y hy => a2 y (by simpa using hy)
              by_cases e : p = i ∧ q = v
              · obtain ⟨rfl, rfl⟩ := e
                refine ⟨?_, by rw [← e4, ux_s], b3⟩
                rw [← e4, ux_cell (by omega), t31 _ (by omega), ← e2, ux_s]
              · obtain ⟨w1, w2, w3⟩ := g2 p q p0 p1 q0 q1 (by omega)
                have k1 : t4 (20 + 1 + p) q = t (20 + 1 + p) q := by
                  rw [← e4, ux_cell (by omega), t31 _ (by omega), ← e2]
                  by_cases ep : p = i
                  · rw [ux_i _ _ _ _ (by omega), t10 _ (by omega)]
                  · rw [ux_cell (by omega), t10 _ (by omega)]
                have k2 : t4 (27 + 1 + p) q = t (27 + 1 + p) q := by
                  have k3 : t3 (27 + 1 + p) = t (27 + 1 + p) := by rw [t31 _ (by omega), ← e2, ux_cell (by omega), t10 _ (by omega)]
                  rw [← e4]
                  by_cases ep : p = i
                  · rw [ux_i _ _ _ _ (by omega), k3]
                  · rw [ux_cell (by omega), k3]
                exact ⟨by rw [k1]; exact w1, by rw [k2]; exact w2, w3⟩
            obtain ⟨t', z1, z2⟩ := ih (v + 1) t4 (by omega) (by omega) l4 G4
            refine ⟨t', z1, fun K' fuel hf => ?_⟩
            obtain ⟨g, rfl⟩ : ∃ g, fuel = g + 1 := ⟨fuel - 1, by omega⟩
            rw [x6_by_L15]
            refine st_bind (verbs_ev ht.2.1.cty) (st_f ?_ (st_gd oki (st_bind a1 (st_gd okv (st_gd bzb (st_be (e' := t2) ?_ (st_gd oki (st_bind b1 (st_gd okv (st_be (e' := t4) ?_ (st_bnd (z2 K' g (by omega)))))))))))))
            · dsimp only
              rw [iv, i32_id (by omega) (by omega)]; omega
            · dsimp only
              rw [ii, iv]; exact e2
            · dsimp only
              rw [ii, iv]; exact e4
        have fu := FU_ge
        obtain ⟨t', z1, z2⟩ := inner vs.length 0 t (by omega) (by omega) g1 g2
        exact ⟨t', z1, fun K' => z2 K' FU (by omega)⟩
      have G' : xgP t' ws.length vs.length (cnX c τ) (wlX c τ) (i + 1) 0 := fun p q p0 p1 q0 q1 hpq => p2 p q p0 p1 q0 q1 (by omega)
      refine ⟨t', ⟨p1, G'⟩, fun f => ?_⟩
      have ht := h.lx g1 stn.rf rfl
      rw [x6_by_L2]
      refine st_bind (sayings_ev ht.2.1.cty) (st_f ?_ (st_bnd ((p3 _).trans (st_bnd rfl))))
      dsimp only
      rw [ii, i32_id (by omega) (by omega)]; omega)
    (fun t hI f => by
      have ht := h.lx hI.1 stn.rf rfl
      rw [x6_by_L2]
      exact st_bind (sayings_ev ht.2.1.cty) (st_t (Int.le_refl _) rfl)) τ ⟨lox.rf, fun p q p0 p1 q0 q1 hpq => by omega⟩
  exact ⟨τ', q3, q1, fun o v h0 h1 h2 h3 => q2 o v h0 h1 h2 h3 (Or.inl h1)⟩
/-- the same of the reference -/
def mgP (s : MS) (n nv : Int) (cn : Int → Int → Bool) (wl : Int → Int → Int) (o v : Int) : Prop := ∀ p q : Int, 0 ≤ p → p < n → 0 ≤ q → q < nv → (p < o ∨ (p = o ∧ q < v)) → s 52 (7 * p + q) = b2i (cn p q) ∧ s 51 (7 * p + q) = wl p q ∧ bd1 (wl p q)
def lpk : List Nat := [47, 50, 51, 52, 102, 103]
theorem lays_ev (h : RLc τ s N c es fs ws vs) : ∃ s', m_laysPairs s = some (0, s') ∧ only lpk s s' ∧ mgR s' ws.length vs.length 1 (cnX c τ) ∧ mwR s' ws.length vs.length (wlX c τ) := by
  obtain ⟨-, ⟨⟨-, hn, h36⟩, -, hv, h37⟩, -⟩ := h.2.1
  have R : ∀ {s1 : MS}, only lpk s s1 → RLc τ s1 N c es fs ws vs := fun {s1} o => h.lx lox.rf (stn.of o (by decide)) (o 48 (by decide))
  obtain ⟨s', ⟨q1, q2⟩, q3⟩ := for0 (fun f i t => m_laysPairs_L2 (fun (s26 : MS) => some (0, s26)) f i t) (fun (s26 : MS) => some (0, s26)) ws.length (fun i t => only lpk s t ∧ mgP t ws.length vs.length (cnX c τ) (wlX c τ) i 0) (by omega) (by omega)
    (fun i t hI h0 hi => by
      obtain ⟨g1, g2⟩ := hI
      have ii : i32 i = i := i32_id (by omega) (by omega)
      obtain ⟨t', ⟨p1, p2⟩, p3⟩ : ∃ t', (only lpk s t' ∧ mgP t' ws.length vs.length (cnX c τ) (wlX c τ) i vs.length) ∧ ∀ K', m_laysPairs_L12 K' FU i 0 t = K' i t' := by
        have inner : ∀ (d : Nat) (v : Int) (t : MS), 0 ≤ v → v + d = vs.length → only lpk s t → mgP t ws.length vs.length (cnX c τ) (wlX c τ) i v → ∃ t', (only lpk s t' ∧ mgP t' ws.length vs.length (cnX c τ) (wlX c τ) i vs.length) ∧ ∀ (K' : Int → MS → Option (Int × MS)) (fuel : Nat), d < fuel → m_laysPairs_L12 K' fuel i v t = K' i t' := by
          intro d
          induction d with
          | zero =>
            intro v t h0v hd g1 g2
            refine ⟨t, ⟨g1, by rw [show v = ((vs.length : Nat) : Int) by omega] at g2; exact g2⟩, fun K' fuel hf => ?_⟩
            obtain ⟨g, rfl⟩ : ∃ g, fuel = g + 1 := ⟨fuel - 1, by omega⟩
            rw [m_laysPairs_L12]
            refine st_bind (verbMany_ev (v := vs.length) (by rw [g1 36 (by decide)]; exact h37)) (st_t ?_ rfl)
            dsimp only
            rw [i32_id (by omega) (by omega), i32_id (by omega) (by omega)]
            omega
          | succ d ih =>
            intro v t h0v hd g1 g2
            have iv : i32 v = v := i32_id (by omega) (by omega)
            have i7 : i32 (7 * i + v) = 7 * i + v := i32_id (by omega) (by omega)
            have ok7 : ok 42 (7 * i + v) := by unfold ok; rw [i7]; omega
            obtain ⟨t1, a1, a2⟩ := can_m h (R g1) (a := i) (u := v) (by omega) (by omega)
            have bzb : bz (b2i (cnX c τ i v)) := by cases cnX c τ i v <;> decide
            obtain ⟨t2, e2⟩ : ∃ t2, up t1 52 (7 * i + v) (b2i (cnX c τ i v)) = t2 := ⟨_, rfl⟩
            have l2 : only lpk s t2 := (g1.tr (a2.mono (by unfold lpk; intro k; simp; omega))).tr (by rw [← e2]; exact only.up (by decide))
            obtain ⟨t3, b1, b2, b3⟩ := well_m h (R l2) (a := i) (u := v) (by omega) (by omega)
            obtain ⟨t4, e4⟩ : ∃ t4, up t3 51 (7 * i + v) (wlX c τ i v) = t4 := ⟨_, rfl⟩
            have l4 : only lpk s t4 := (l2.tr (b2.mono (by unfold lpk; intro k; simp; omega))).tr (by rw [← e4]; exact only.up (by decide))
            have G4 : mgP t4 ws.length vs.length (cnX c τ) (wlX c τ) i (v + 1) := fun p q p0 p1 q0 q1 hpq => by
              have k52 : ∀ j, t4 52 j = up t1 52 (7 * i + v) (b2i (cnX c τ i v)) 52 j := fun j => by rw [← e4, up_row (by decide), b2 52 (by decide), e2]
              have k51 : ∀ j, t3 51 j = t 51 j := fun j => by rw [b2 51 (by decide), ← e2, up_row (by decide), a2 51 (by decide)]
              by_cases e : p = i ∧ q = v
              · obtain ⟨rfl, rfl⟩ := e
                exact ⟨by rw [k52, up_s], by rw [← e4, up_s], b3⟩
              · obtain ⟨w1, w2, w3⟩ := g2 p q p0 p1 q0 q1 (by omega)
                have ne : 7 * p + q ≠ 7 * i + v := by omega
                exact ⟨by rw [k52, up_i _ _ _ _ ne, a2 52 (by decide)]; exact w1, by rw [← e4, up_i _ _ _ _ ne, k51]; exact w2, w3⟩
            obtain ⟨t', z1, z2⟩ := ih (v + 1) t4 (by omega) (by omega) l4 G4
            refine ⟨t', z1, fun K' fuel hf => ?_⟩
            obtain ⟨g, rfl⟩ : ∃ g, fuel = g + 1 := ⟨fuel - 1, by omega⟩
            rw [m_laysPairs_L12]
            refine st_bind (verbMany_ev (v := vs.length) (by rw [g1 36 (by decide)]; exact h37)) (st_f ?_ (st_bind a1 (st_gd ok7 (st_gd bzb (st_be (e' := t2) ?_ (st_bind b1 (st_gd ok7 (st_be (e' := t4) ?_ (st_bnd (z2 K' g (by omega)))))))))))
            · dsimp only
              rw [iv, i32_id (by omega) (by omega)]; omega
            · dsimp only
              rw [i7]; exact e2
            · dsimp only
              rw [i7]; exact e4
        have fu := FU_ge
        obtain ⟨t', z1, z2⟩ := inner vs.length 0 t (by omega) (by omega) g1 g2
        exact ⟨t', z1, fun K' => z2 K' FU (by omega)⟩
      have G' : mgP t' ws.length vs.length (cnX c τ) (wlX c τ) (i + 1) 0 := fun p q p0 p1 q0 q1 hpq => p2 p q p0 p1 q0 q1 (by omega)
      refine ⟨t', ⟨p1, G'⟩, fun f => ?_⟩
      rw [m_laysPairs_L2]
      refine st_bind (sayMany_ev (v := ws.length) (by rw [g1 36 (by decide)]; exact h36)) (st_f ?_ (st_bnd ((p3 _).trans (st_bnd rfl))))
      dsimp only
      rw [ii, i32_id (by omega) (by omega)]; omega)
    (fun t hI f => by
      rw [m_laysPairs_L2]
      exact st_bind (sayMany_ev (v := ws.length) (by rw [hI.1 36 (by decide)]; exact h36)) (st_t (Int.le_refl _) rfl)) s ⟨only.rf, fun p q p0 p1 q0 q1 hpq => by omega⟩
  have e36 := q1 36 (by decide)
  refine ⟨s', ?_, q1, ⟨⟨by rw [e36]; exact h36, hn⟩, ⟨by rw [e36]; exact h37, hv⟩, Or.inr ⟨rfl, fun o v h0 h1 h2 h3 => (q2 o v h0 h1 h2 h3 (Or.inl h1)).1⟩⟩, fun o v h0 h1 h2 h3 => (q2 o v h0 h1 h2 h3 (Or.inl h1)).2⟩
  unfold m_laysPairs
  exact st_bnd q3
/-- the sack -/
theorem sack_fin : ∀ (n : Fin 8) (a : Fin 128), (0 ≤ iand (ishl 1 n.val - 1) (ixor a.val (-1)) ∧ iand (ishl 1 n.val - 1) (ixor a.val (-1)) < 128) ∧ ∀ o : Fin 7, bit (iand (ishl 1 n.val - 1) (ixor a.val (-1))) o.val = (decide (o.val < n.val) && !(bit a.val o.val)) := by decide +kernel
def skV (nv lent : Int) : Int := iand (ishl 1 nv - 1) (ixor lent (-1))
theorem skV_b {nv lent : Int} (hn : 0 ≤ nv ∧ nv ≤ 7) (hl : 0 ≤ lent ∧ lent < 128) : (0 ≤ skV nv lent ∧ skV nv lent < 128) ∧ ∀ o : Int, 0 ≤ o → o < 7 → bit (skV nv lent) o = (decide (o < nv) && !(bit lent o)) := by
  obtain ⟨q1, q2⟩ := sack_fin ⟨nv.toNat, by omega⟩ ⟨lent.toNat, by omega⟩
  dsimp only at q1 q2
  rw [show ((nv.toNat : Nat) : Int) = nv by omega, show ((lent.toNat : Nat) : Int) = lent by omega] at q1 q2
  refine ⟨q1, fun o h0 h1 => ?_⟩
  have := q2 ⟨o.toNat, by omega⟩
  dsimp only at this
  rw [show ((o.toNat : Nat) : Int) = o by omega] at this
  unfold skV
  rw [this]
  congr 2
  rw [eq_iff_iff]
  omega
theorem sack_x (h : RLc τ s N c es fs ws vs) : x7_sack c τ = some (skV vs.length (τ c 1), τ) := by
  unfold x7_sack
  exact st_gd h.2.2.1 (st_bind (verbs_ev h.2.1.cty) rfl)
theorem sack_m (h : RLc τ s N c es fs ws vs) : m_sack s = some (skV vs.length (τ c 1), s) := by
  obtain ⟨-, ⟨-, -, hv, h37⟩, -⟩ := h.2.1
  obtain ⟨-, ⟨l1, l2, l3⟩, -⟩ := h.2.2.2
  obtain ⟨k1, k2⟩ := skV_b (nv := vs.length) (by omega) l1
  have go : ∀ (d fuel : Nat) (v x : Int), 0 ≤ v → v + d = vs.length → d < fuel → (0 ≤ x ∧ x < 128) → (∀ o : Int, 0 ≤ o → o < 7 → bit x o = (decide (o < v) && !(bit (τ c 1) o))) → m_sack_L4 (fun (x1_18 : Int) (s19 : MS) => some (x1_18, s19)) fuel x v s = some (skV vs.length (τ c 1), s) := by
    intro d
    induction d with
    | zero =>
      intro fuel v x h0 hd hf hx hb
      obtain ⟨g, rfl⟩ : ∃ g, fuel = g + 1 := ⟨fuel - 1, by omega⟩
      have : x = skV vs.length (τ c 1) := bit_ext hx k1 (fun o o0 o1 => by rw [hb o o0 o1, k2 o o0 o1, show ((vs.length : Nat) : Int) = v by omega])
      rw [← this, m_sack_L4]
      refine st_bind (verbMany_ev h37) (st_t ?_ rfl)
      dsimp only
      rw [i32_id (by omega) (by omega), i32_id (by omega) (by omega)]
      omega
    | succ d ih =>
      intro fuel v x h0 hd hf hx hb
      obtain ⟨g, rfl⟩ : ∃ g, fuel = g + 1 := ⟨fuel - 1, by omega⟩
      have iv : i32 (1 + v) = 1 + v := i32_id (by omega) (by omega)
      have e1 := l3 v h0 (by omega)
      have il : m_isLent v s = some (b2i (bit (τ c 1) v), s) := by
        unfold m_isLent
        refine st_gd (by unfold ok; rw [iv]; omega) ?_
        rw [iv, e1]
        cases bit (τ c 1) v with
        | true => exact st_t (by decide) rfl
        | false => exact st_f (by decide) rfl
      have bx : bit x v = false := by rw [hb v h0 (by omega), decide_eq_false (by omega)]; rfl
      have nle : ¬ i32 (vs.length : Int) ≤ i32 v := by rw [i32_id (by omega) (by omega), i32_id (by omega) (by omega)]; omega
      rw [m_sack_L4]
      cases hl : bit (τ c 1) v with
      | true =>
        rw [hl] at il
        refine st_bind (verbMany_ev h37) (st_f nle (st_bind il (st_bnd (st_f n10 (st_bnd (ih g (v + 1) x (by omega) (by omega) (by omega) hx (fun o o0 o1 => ?_)))))))
        rw [hb o o0 o1]
        by_cases e : o = v
        · rw [e, hl]; simp
        · congr 2
          rw [eq_iff_iff]
          omega
      | false =>
        rw [hl] at il
        refine st_bind (verbMany_ev h37) (st_f nle (st_bind il (st_bnd (st_t i32_0 (st_bnd (st_bnd (ih g (v + 1) _ (by omega) (by omega) (by omega) ?_ (fun o o0 o1 => ?_))))))))
        · exact set_b7 hx ⟨h0, by omega⟩
        · rw [set_ev hx ⟨h0, by omega⟩, set_bit hx ⟨h0, by omega⟩ ⟨o0, o1⟩, hb o o0 o1]
          by_cases e : o = v
          · rw [e, hl]; simp; omega
          · rw [decide_eq_false e, Bool.or_false]
            congr 2
            rw [eq_iff_iff]
            omega
  unfold m_sack
  have fu := FU_ge
  refine st_bnd (st_bnd (go vs.length FU 0 0 (by omega) (by omega) (by omega) (by omega) (fun o o0 o1 => ?_)))
  rw [decide_eq_false (by omega), Bool.false_and]
  have : ∀ o : Fin 7, bit 0 o.val = false := by decide
  have := this ⟨o.toNat, by omega⟩
  dsimp only at this
  rw [show ((o.toNat : Nat) : Int) = o by omega] at this
  exact this
end
