set_option maxRecDepth 100000
/-! LAYER 2: what was given is kept: the last fifty -/
/-- a state's rows: fifty cells of its own, each once -/
def rwR (τ : XS) (c : Int) : Prop := ∀ k : Int, 0 ≤ k → k < 50 → (c + 13 ≤ τ (c + 12) k ∧ τ (c + 12) k ≤ c + 62) ∧ ∀ j : Int, 0 ≤ j → j < 50 → τ (c + 12) k = τ (c + 12) j → k = j
section
variable {τ τ' : XS} {s s' : MS} {c o v : Int}
theorem row_tg (hc : isSt c) {y : Int} (hy : c + 13 ≤ y ∧ y ≤ c + 62) (τ : XS) : (tg true τ y = 101 ∧ ln true τ y = 3) ∧ ¬ y = -1 ∧ 0 ≤ y ∧ ¬ (1438 ≤ y ∧ y < 1514) := by
  have hb := isSt_b hc
  have e := st_at hc (r := y - c) (by omega) (by omega)
  rw [show c + (y - c) = y by omega] at e
  have r1 : rtg (y - c) = 101 := by unfold rtg; rw [if_neg (by omega), if_neg (by omega), if_neg (by omega), if_neg (by omega), if_neg (by omega)]
  have r2 : rln (y - c) = 3 := by unfold rln; rw [if_neg (by omega), if_neg (by omega), if_neg (by omega)]
  rw [r1, r2] at e
  refine ⟨⟨?_, ?_⟩, by omega, by omega, by omega⟩
  · unfold tg; rw [e]; rfl
  · unfold ln; rw [e]; rfl
noncomputable def xTw (a0 x1_3 x2_4 : Int) (s5 : XS) : Option (Int × XS) :=
      gd (ok 50 (s5 a0 2)) <|
      gd (¬ (s5 (a0 + 12) (i32 (s5 a0 2))) = -1) <|
      gd (tg true s5 (s5 (a0 + 12) (i32 (s5 a0 2))) = 101) <|
      gd (0 ≤ (s5 (a0 + 12) (i32 (s5 a0 2))) ∧ ¬ (1438 ≤ (s5 (a0 + 12) (i32 (s5 a0 2))) ∧ (s5 (a0 + 12) (i32 (s5 a0 2))) < 1514)) <|
      gd (ok (ln true s5 (s5 (a0 + 12) (i32 (s5 a0 2)))) 0) <|
      bnd (ux s5 (s5 (a0 + 12) (i32 (s5 a0 2))) (i32 0) (s5 a0 0)) fun s11 =>
      gd (ok 50 (s11 a0 2)) <|
      gd (¬ (s11 (a0 + 12) (i32 (s11 a0 2))) = -1) <|
      gd (tg true s11 (s11 (a0 + 12) (i32 (s11 a0 2))) = 101) <|
      gd (0 ≤ (s11 (a0 + 12) (i32 (s11 a0 2))) ∧ ¬ (1438 ≤ (s11 (a0 + 12) (i32 (s11 a0 2))) ∧ (s11 (a0 + 12) (i32 (s11 a0 2))) < 1514)) <|
      gd (ok (ln true s11 (s11 (a0 + 12) (i32 (s11 a0 2)))) 1) <|
      bnd (ux s11 (s11 (a0 + 12) (i32 (s11 a0 2))) (i32 1) x1_3) fun s17 =>
      gd (ok 50 (s17 a0 2)) <|
      gd (¬ (s17 (a0 + 12) (i32 (s17 a0 2))) = -1) <|
      gd (tg true s17 (s17 (a0 + 12) (i32 (s17 a0 2))) = 101) <|
      gd (0 ≤ (s17 (a0 + 12) (i32 (s17 a0 2))) ∧ ¬ (1438 ≤ (s17 (a0 + 12) (i32 (s17 a0 2))) ∧ (s17 (a0 + 12) (i32 (s17 a0 2))) < 1514)) <|
      gd (ok (ln true s17 (s17 (a0 + 12) (i32 (s17 a0 2)))) 2) <|
      bnd (ux s17 (s17 (a0 + 12) (i32 (s17 a0 2))) (i32 2) x2_4) fun s23 =>
      bnd (ux s23 a0 2 ((s23 a0 2) + 1)) fun s24 =>
      some (0, s24)
/-- one row is written, at the place K -/
theorem tw_ev (hc : isSt c) (hr : rwR τ c) {K : Int} (hK : τ c 2 = K) (hk : 0 ≤ K ∧ K < 50) : ∃ τ', xTw c o v τ = some (0, τ') ∧ (∀ y, y ≠ c → y ≠ τ (c + 12) K → τ' y = τ y) ∧ (∀ i, i ≠ 2 → τ' c i = τ c i) ∧ τ' c 2 = K + 1 ∧ (τ' (τ (c + 12) K) 0 = τ c 0 ∧ τ' (τ (c + 12) K) 1 = o ∧ τ' (τ (c + 12) K) 2 = v) := by
  have hb := isSt_b hc
  obtain ⟨r1, -⟩ := hr K hk.1 hk.2
  have iK : i32 K = K := i32_id (by omega) (by omega)
  have okK : ok 50 K := by unfold ok; rw [iK]; omega
  obtain ⟨y, ey⟩ : ∃ y, τ (c + 12) K = y := ⟨_, rfl⟩
  rw [ey] at r1 ⊢
  obtain ⟨t1, e1⟩ : ∃ t1, ux τ y 0 (τ c 0) = t1 := ⟨_, rfl⟩
  obtain ⟨t2, e2⟩ : ∃ t2, ux t1 y 1 o = t2 := ⟨_, rfl⟩
  obtain ⟨t3, e3⟩ : ∃ t3, ux t2 y 2 v = t3 := ⟨_, rfl⟩
  obtain ⟨t4, e4⟩ : ∃ t4, ux t3 c 2 (K + 1) = t4 := ⟨_, rfl⟩
  have f1 : ∀ w, w ≠ y → t1 w = τ w := fun w h => by rw [← e1]; exact ux_cell h
  have f2 : ∀ w, w ≠ y → t2 w = τ w := fun w h => by rw [← e2, ux_cell h]; exact f1 w h
  have f3 : ∀ w, w ≠ y → t3 w = τ w := fun w h => by rw [← e3, ux_cell h]; exact f2 w h
  have i1 : i32 1 = 1 := by decide
  have i2 : i32 2 = 2 := by decide
  have G : ∀ t : XS, (∀ w, w ≠ y → t w = τ w) → t c 2 = K ∧ t (c + 12) (i32 (t c 2)) = y ∧ ok 50 (t c 2) := fun t ft => by
    rw [ft c (by omega), hK, ft (c + 12) (by omega), iK]
    exact ⟨rfl, ey, okK⟩
  have oks : ∀ (t : XS) (j : Int), 0 ≤ j ∧ j < 3 → ok (ln true t y) j := fun t j hj => by
    rw [(row_tg hc r1 t).1.2]
    unfold ok
    rw [i32_id (by omega) (by omega)]
    omega
  obtain ⟨a1, a2, a3⟩ := G τ (fun _ _ => rfl)
  obtain ⟨b1, b2, b3⟩ := G t1 f1
  obtain ⟨d1, d2, d3⟩ := G t2 f2
  refine ⟨t4, ?_, fun w h1 h2 => ?_, fun i hi => ?_, by rw [← e4, ux_s], ?_, ?_, ?_⟩
  · unfold xTw
    rw [a2]
    refine st_gd a3 (st_gd (row_tg hc r1 τ).2.1 (st_gd (row_tg hc r1 τ).1.1 (st_gd (row_tg hc r1 τ).2.2 (st_gd (oks τ 0 (by decide)) (st_be (e' := t1) (by rw [i32_0]; exact e1) ?_)))))
    rw [b2]
    refine st_gd b3 (st_gd (row_tg hc r1 t1).2.1 (st_gd (row_tg hc r1 t1).1.1 (st_gd (row_tg hc r1 t1).2.2 (st_gd (oks t1 1 (by decide)) (st_be (e' := t2) (by rw [i1]; exact e2) ?_)))))
    rw [d2]
    refine st_gd d3 (st_gd (row_tg hc r1 t2).2.1 (st_gd (row_tg hc r1 t2).1.1 (st_gd (row_tg hc r1 t2).2.2 (st_gd (oks t2 2 (by decide)) (st_be (e' := t3) (by rw [i2]; exact e3) (st_be (e' := t4) ?_ rfl))))))
    rw [f3 c (by omega), hK]; exact e4
  · rw [← e4, ux_cell h1]; exact f3 w h2
  · rw [← e4, ux_i _ _ _ _ hi, f3 c (by omega)]
  · rw [← e4, ux_cell (by omega), ← e3, ux_i _ _ _ _ (by decide), ← e2, ux_i _ _ _ _ (by decide), ← e1, ux_s]
  · rw [← e4, ux_cell (by omega), ← e3, ux_i _ _ _ _ (by decide), ← e2, ux_s]
  · rw [← e4, ux_cell (by omega), ← e3, ux_s]
theorem rwR.kept (h : rwR τ c) (e : τ' (c + 12) = τ (c + 12)) : rwR τ' c := by
  unfold rwR
  rw [e]
  exact h
/-- all rows move on by one -/
theorem turn19 (hc : isSt c) (K : Int → Int → Int → XS → Option (Int × XS)) (a b x : Int) : ∀ (d fuel : Nat) (k : Int) (t : XS), 1 ≤ k → k + d = 50 → d < fuel → rwR τ c → onx [c + 12] τ t → (∀ j : Int, 0 ≤ j → j < 50 → t (c + 12) j = if j < k - 1 then τ (c + 12) (j + 1) else τ (c + 12) j) →
    ∃ t', x7_tells_L19 c K fuel a b x k t = K a b x t' ∧ onx [c + 12] τ t' ∧ ∀ j : Int, 0 ≤ j → j < 50 → t' (c + 12) j = if j < 49 then τ (c + 12) (j + 1) else τ (c + 12) j := by
  intro d
  induction d with
  | zero =>
    intro fuel k t h1 hd hf hr ho ht
    obtain ⟨g, rfl⟩ : ∃ g, fuel = g + 1 := ⟨fuel - 1, by omega⟩
    refine ⟨t, ?_, ho, fun j h0 h1 => ?_⟩
    · rw [x7_tells_L19]
      exact st_t (by rw [i32_id (by omega) (by omega), i32_id (by omega) (by omega)]; omega) rfl
    · rw [ht j h0 h1, show k - 1 = 49 by omega]
  | succ d ih =>
    intro fuel k t h1 hd hf hr ho ht
    obtain ⟨g, rfl⟩ : ∃ g, fuel = g + 1 := ⟨fuel - 1, by omega⟩
    have ik : i32 k = k := i32_id (by omega) (by omega)
    have ik1 : i32 (k - 1) = k - 1 := i32_id (by omega) (by omega)
    have e := ht k (by omega) (by omega)
    rw [if_neg (by omega)] at e
    obtain ⟨r1, -⟩ := hr k (by omega) (by omega)
    obtain ⟨t1, e1⟩ : ∃ t1, ux t (c + 12) (k - 1) (τ (c + 12) k) = t1 := ⟨_, rfl⟩
    have o1 : onx [c + 12] τ t1 := ho.tr (by rw [← e1]; exact onx.up (by simp))
    obtain ⟨t', a1, a2, a3⟩ := ih g (k + 1) t1 (by omega) (by omega) (by omega) hr o1 (fun j h0 h1 => by
      rw [← e1]
      by_cases ej : j = k - 1
      · rw [ej, ux_s, if_pos (by omega), show k - 1 + 1 = k by omega]
      · rw [ux_i _ _ _ _ ej, ht j h0 h1]
        by_cases q : j < k - 1
        · rw [if_pos q, if_pos (by omega)]
        · rw [if_neg q, if_neg (by omega)])
    refine ⟨t', ?_, a2, a3⟩
    rw [x7_tells_L19]
    refine st_f (by rw [ik, i32_id (by omega) (by omega)]; omega) (st_gd (by unfold ok; rw [ik]; omega) (st_gd ?_ (st_gd (by unfold ok; rw [ik1]; omega) (st_gd ?_ (st_gd ?_ (st_be (e' := t1) ?_ (st_bnd a1)))))))
    · rw [ik, e]; exact (row_tg hc r1 t).2.1
    · rw [ik, e]; exact (row_tg hc r1 t).1.1
    · rw [ik, e]; exact (row_tg hc r1 t).2.1
    · rw [ik, e, ik1]; exact e1
/-- the system keeps what was given -/
theorem tells_x (hc : isSt c) (hr : rwR τ c) (hk : 0 ≤ τ c 2 ∧ τ c 2 ≤ 50) (o v : Int) : ∃ τ', x7_tells c o v τ = some (0, τ') ∧ (∀ y, y ≠ c → ¬ (c + 12 ≤ y ∧ y ≤ c + 62) → τ' y = τ y) ∧ (∀ i, i ≠ 2 → τ' c i = τ c i) ∧ rwR τ' c ∧
    ((τ c 2 < 50 ∧ τ' c 2 = τ c 2 + 1 ∧ ∀ k i : Int, 0 ≤ k → k < τ c 2 → τ' (τ' (c + 12) k) i = τ (τ (c + 12) k) i) ∨ (τ c 2 = 50 ∧ τ' c 2 = 50 ∧ ∀ k i : Int, 0 ≤ k → k < 49 → τ' (τ' (c + 12) k) i = τ (τ (c + 12) (k + 1)) i)) ∧
    (τ' (τ' (c + 12) (τ' c 2 - 1)) 0 = τ c 0 ∧ τ' (τ' (c + 12) (τ' c 2 - 1)) 1 = o ∧ τ' (τ' (c + 12) (τ' c 2 - 1)) 2 = v) := by
  have hb := isSt_b hc
  by_cases h50 : τ c 2 = 50
  · obtain ⟨y0, ey0⟩ : ∃ y0, τ (c + 12) 0 = y0 := ⟨_, rfl⟩
    have r0 := (hr 0 (by decide) (by decide)).1
    rw [ey0] at r0
    have fu := FU_ge
    obtain ⟨t1, a1, a2, a3⟩ := turn19 (τ := τ) hc (fun (x1_48 : Int) (x2_49 : Int) (x3_50 : Int) (s51 : XS) =>
        gd (ok 50 49) <|
        gd (tg true s51 x3_50 = 101) <|
        gd (¬ x3_50 = -1) <|
        bnd (ux s51 (c + 12) (i32 49) x3_50) fun s55 =>
        bnd (ux s55 c 2 ((s55 c 2) - 1)) fun s56 =>
        xTw c x1_48 x2_49 s56) o v y0 49 FU 1 τ (by omega) (by omega) (by omega) hr onx.rf (fun j h0 h1 => by rw [if_neg (by omega)])
    obtain ⟨t2, e2⟩ : ∃ t2, ux t1 (c + 12) 49 y0 = t2 := ⟨_, rfl⟩
    obtain ⟨t3, e3⟩ : ∃ t3, ux t2 c 2 49 = t3 := ⟨_, rfl⟩
    have f1 : ∀ y, y ≠ c + 12 → t1 y = τ y := fun y h => a2 y (by simpa using h)
    have f2 : ∀ y, y ≠ c + 12 → t2 y = τ y := fun y h => by rw [← e2, ux_cell h]; exact f1 y h
    have f3 : ∀ y, y ≠ c + 12 → y ≠ c → t3 y = τ y := fun y h h' => by rw [← e3, ux_cell h']; exact f2 y h
    have g3 : ∀ j : Int, 0 ≤ j → j < 50 → t3 (c + 12) j = if j < 49 then τ (c + 12) (j + 1) else y0 := fun j h0 h1 => by
      rw [← e3, ux_cell (by omega), ← e2]
      by_cases ej : j = 49
      · rw [ej, ux_s]; rfl
      · rw [ux_i _ _ _ _ ej, a3 j h0 h1, if_pos (by omega), if_pos (by omega)]
    have R3 : rwR t3 c := fun k h0 h1 => by
      refine ⟨?_, fun j j0 j1 e => ?_⟩
      · rw [g3 k h0 h1]
        by_cases q : k < 49
        · rw [if_pos q]; exact (hr (k + 1) (by omega) (by omega)).1
        · rw [if_neg q]; exact r0
      · rw [g3 k h0 h1, g3 j j0 j1] at e
        by_cases q : k < 49
        · rw [if_pos q] at e
          by_cases q2 : j < 49
          · rw [if_pos q2] at e
            have := (hr (k + 1) (by omega) (by omega)).2 (j + 1) (by omega) (by omega) e
            omega
          · rw [if_neg q2, ← ey0] at e
            have := (hr (k + 1) (by omega) (by omega)).2 0 (by omega) (by omega) e
            omega
        · rw [if_neg q] at e
          by_cases q2 : j < 49
          · rw [if_pos q2, ← ey0] at e
            have := (hr 0 (by omega) (by omega)).2 (j + 1) (by omega) (by omega) e
            omega
          · omega
    have k3 : t3 c 2 = 49 := by rw [← e3, ux_s]
    have k30 : ∀ i, i ≠ 2 → t3 c i = τ c i := fun i h => by rw [← e3, ux_i _ _ _ _ h, f2 c (by omega)]
    obtain ⟨t4, b1, b2, b3, b4, b5⟩ := tw_ev (o := o) (v := v) hc R3 k3 (by decide)
    have e49 : t3 (c + 12) 49 = y0 := by rw [g3 49 (by decide) (by decide)]; rfl
    rw [e49] at b2 b5
    have r4 : t4 (c + 12) = t3 (c + 12) := b2 _ (by omega) (by omega)
    have b4' : t4 c 2 = 50 := by rw [b4]; rfl
    refine ⟨t4, ?_, fun y h1 h2 => ?_, fun i hi => by rw [b3 i hi, k30 i hi], R3.kept r4, Or.inr ⟨h50, b4', fun k i h0 h1 => ?_⟩, ?_⟩
    · unfold x7_tells
      refine st_gd hc (st_bnd (st_t (by rw [h50]) (st_gd (by decide) (st_gd ?_ (st_be (e' := y0) (by rw [i32_0]; exact ey0) (st_bnd ?_))))))
      · rw [i32_0, ey0]; exact (row_tg hc r0 τ).2.1
      · refine a1.trans (st_gd (by decide) (st_gd (row_tg hc r0 t1).1.1 (st_gd (row_tg hc r0 t1).2.1 (st_be (e' := t2) ?_ (st_be (e' := t3) ?_ b1)))))
        · rw [show i32 49 = 49 by decide]; exact e2
        · rw [f2 c (by omega), h50]; exact e3
    · rw [b2 y h1 (by omega)]; exact f3 y (by omega) h1
    · rw [r4, g3 k h0 (by omega), if_pos h1]
      have q := hr (k + 1) (by omega) (by omega)
      have ne : τ (c + 12) (k + 1) ≠ y0 := fun e => by
        rw [← ey0] at e
        have := q.2 0 (by omega) (by omega) e
        omega
      rw [b2 _ (by omega) ne, f3 _ (by omega) (by omega)]
    · rw [b4', show (50 : Int) - 1 = 49 by decide, r4, e49, ← k30 0 (by decide)]
      exact b5
  · obtain ⟨t4, b1, b2, b3, b4, b5⟩ := tw_ev (o := o) (v := v) hc hr (K := τ c 2) rfl (by omega)
    have q0 := hr (τ c 2) (by omega) (by omega)
    have r4 : t4 (c + 12) = τ (c + 12) := b2 _ (by omega) (by omega)
    refine ⟨t4, ?_, fun y h1 h2 => b2 y h1 (by omega), b3, hr.kept r4, Or.inl ⟨by omega, b4, fun k i h0 h1 => ?_⟩, ?_⟩
    · unfold x7_tells
      refine st_gd hc (st_bnd (st_f ?_ b1))
      rw [i32_id (by omega) (by omega), i32_id (by omega) (by omega)]
      exact h50
    · have q := hr k h0 (by omega)
      have ne : τ (c + 12) k ≠ τ (c + 12) (τ c 2) := fun e => by
        have := q.2 (τ c 2) (by omega) (by omega) e
        omega
      rw [r4, b2 _ (by omega) ne]
    · rw [b4, show τ c 2 + 1 - 1 = τ c 2 by omega, r4]
      exact b5
/-- the reference keeps what was given -/
theorem kept23 (K : Int → Int → MS → Option (Int × MS)) (a b : Int) (s0 : MS) : ∀ (d fuel : Nat) (k : Int) (s : MS), 69 ≤ k → k + d = 216 → d < fuel → only [48] s0 s → (∀ j : Int, s 48 j = if 69 ≤ j ∧ j < k then s0 48 (j + 3) else s0 48 j) → ∃ s', m_isKept_L23 K fuel a b k s = K a b s' ∧ only [48] s0 s' ∧ ∀ j : Int, s' 48 j = if 69 ≤ j ∧ j < 216 then s0 48 (j + 3) else s0 48 j := by
  intro d
  induction d with
  | zero =>
    intro fuel k s h1 hd hf ho ht
    obtain ⟨g, rfl⟩ : ∃ g, fuel = g + 1 := ⟨fuel - 1, by omega⟩
    refine ⟨s, ?_, ho, fun j => by rw [ht j, show k = 216 by omega]⟩
    rw [m_isKept_L23]
    exact st_t (by rw [i32_id (by omega) (by omega), i32_id (by omega) (by omega)]; omega) rfl
  | succ d ih =>
    intro fuel k s h1 hd hf ho ht
    obtain ⟨g, rfl⟩ : ∃ g, fuel = g + 1 := ⟨fuel - 1, by omega⟩
    have ik : i32 k = k := i32_id (by omega) (by omega)
    have ik3 : i32 (k + 3) = k + 3 := i32_id (by omega) (by omega)
    have e := ht (k + 3)
    rw [if_neg (by omega)] at e
    obtain ⟨s1, e1⟩ : ∃ s1, up s 48 k (s0 48 (k + 3)) = s1 := ⟨_, rfl⟩
    obtain ⟨s', a1, a2, a3⟩ := ih g (k + 1) s1 (by omega) (by omega) (by omega) (ho.tr (by rw [← e1]; exact only.up (by decide))) (fun j => by
      rw [← e1]
      by_cases ej : j = k
      · rw [ej, up_s, if_pos (by omega)]
      · rw [up_i _ _ _ _ ej, ht j]
        by_cases q : 69 ≤ j ∧ j < k
        · rw [if_pos q, if_pos (by omega)]
        · rw [if_neg q, if_neg (by omega)])
    refine ⟨s', ?_, a2, a3⟩
    rw [m_isKept_L23]
    refine st_f (by rw [ik, i32_id (by omega) (by omega)]; omega) (st_gd (by unfold ok; rw [ik3]; omega) (st_gd (by unfold ok; rw [ik]; omega) (st_be (e' := s1) ?_ (st_bnd a1))))
    rw [ik, ik3, e]; exact e1
theorem isKept_ev (h60 : s 60 0 = 0) (hk : 0 ≤ s 48 68 ∧ s 48 68 ≤ 50) (o v : Int) : ∃ s', m_isKept o v s = some (0, s') ∧ only [48] s s' ∧ (∀ j : Int, j < 68 → s' 48 j = s 48 j) ∧
    ((s 48 68 < 50 ∧ s' 48 68 = s 48 68 + 1 ∧ ∀ j : Int, 69 ≤ j → j < 69 + 3 * s 48 68 → s' 48 j = s 48 j) ∨ (s 48 68 = 50 ∧ s' 48 68 = 50 ∧ ∀ j : Int, 69 ≤ j → j < 216 → s' 48 j = s 48 (j + 3))) ∧
    (s' 48 (69 + 3 * (s' 48 68 - 1)) = s 48 0 ∧ s' 48 (69 + 3 * (s' 48 68 - 1) + 1) = o ∧ s' 48 (69 + 3 * (s' 48 68 - 1) + 2) = v) := by
  have i68 : i32 68 = 68 := by decide
  -- the row is written at the place K
  have wr : ∀ (t : MS) (K : Int), t 48 68 = K → 1 ≤ K ∧ K ≤ 50 → ∃ t', (gd (ok 219 68) <|
        bnd ((69 + (3 * (t 48 (i32 68)))) - 3) fun x3_9 =>
        gd (ok 219 0) <|
        gd (ok 219 x3_9) <|
        bnd (up t 48 (i32 x3_9) (t 48 (i32 0))) fun s12 =>
        gd (ok 219 (x3_9 + 1)) <|
        bnd (up s12 48 (i32 (x3_9 + 1)) o) fun s14 =>
        gd (ok 219 (x3_9 + 2)) <|
        bnd (up s14 48 (i32 (x3_9 + 2)) v) fun s16 =>
        some ((0 : Int), s16)) = some (0, t') ∧ only [48] t t' ∧ (∀ j : Int, j < 69 + 3 * (K - 1) → t' 48 j = t 48 j) ∧ (t' 48 (69 + 3 * (K - 1)) = t 48 0 ∧ t' 48 (69 + 3 * (K - 1) + 1) = o ∧ t' 48 (69 + 3 * (K - 1) + 2) = v) := fun t K hK hb => by
    obtain ⟨p, ep⟩ : ∃ p, 69 + 3 * (K - 1) = p := ⟨_, rfl⟩
    have ep' : (69 + (3 * (t 48 (i32 68)))) - 3 = p := by rw [i68, hK]; omega
    have ip : i32 p = p := i32_id (by omega) (by omega)
    have ip1 : i32 (p + 1) = p + 1 := i32_id (by omega) (by omega)
    have ip2 : i32 (p + 2) = p + 2 := i32_id (by omega) (by omega)
    rw [ep]
    refine ⟨up (up (up t 48 p (t 48 0)) 48 (p + 1) o) 48 (p + 2) v, ?_, ((only.up (by decide)).tr (only.up (by decide))).tr (only.up (by decide)), fun j hj => by rw [up_i _ _ _ _ (by omega), up_i _ _ _ _ (by omega), up_i _ _ _ _ (by omega)], ?_, ?_, ?_⟩
    · refine st_gd (by decide) (st_be ep' (st_gd (by decide) (st_gd (by unfold ok; rw [ip]; omega) (st_bnd (st_gd (by unfold ok; rw [ip1]; omega) (st_bnd (st_gd (by unfold ok; rw [ip2]; omega) (st_bnd ?_))))))))
      rw [ip, ip1, ip2, i32_0]
    · rw [up_i _ _ _ _ (by omega), up_i _ _ _ _ (by omega), up_s]
    · rw [up_i _ _ _ _ (by omega), up_s]
    · rw [up_s]
  have i60 : i32 (s 60 0) = 0 := by rw [h60]; exact i32_0
  by_cases h50 : s 48 68 = 50
  · have fu := FU_ge
    obtain ⟨s1, a1, a2, a3⟩ := kept23 (fun (x1_35 : Int) (x2_36 : Int) (s37 : MS) =>
          gd (ok 219 68) <|
          bnd ((69 + (3 * (s37 48 (i32 68)))) - 3) fun x3_9 =>
          gd (ok 219 0) <|
          gd (ok 219 x3_9) <|
          bnd (up s37 48 (i32 x3_9) (s37 48 (i32 0))) fun s12 =>
          gd (ok 219 (x3_9 + 1)) <|
          bnd (up s12 48 (i32 (x3_9 + 1)) x1_35) fun s14 =>
          gd (ok 219 (x3_9 + 2)) <|
          bnd (up s14 48 (i32 (x3_9 + 2)) x2_36) fun s16 =>
          some (0, s16)) o v s 147 FU 69 s (by omega) (by omega) (by omega) only.rf (fun j => by rw [if_neg (by omega)])
    have k1 : s1 48 68 = 50 := by rw [a3 68, if_neg (by omega)]; exact h50
    obtain ⟨s2, b1, b2, b3, b4⟩ := wr s1 50 k1 (by omega)
    have k2 : s2 48 68 = 50 := by rw [b3 68 (by omega)]; exact k1
    refine ⟨s2, ?_, a2.tr b2, fun j hj => by rw [b3 j (by omega), a3 j, if_neg (by omega)], Or.inr ⟨h50, k2, fun j h1 h2 => by rw [b3 j (by omega), a3 j, if_pos (by omega)]⟩, ?_⟩
    · unfold m_isKept
      exact st_t i60 (st_gd (by decide) (st_bnd (st_t (by rw [i68, h50]) (st_bnd (a1.trans b1)))))
    · rw [k2]
      rw [a3 0, if_neg (by omega)] at b4
      exact b4
  · obtain ⟨s1, e1⟩ : ∃ s1, up s 48 68 (s 48 68 + 1) = s1 := ⟨_, rfl⟩
    have k1 : s1 48 68 = s 48 68 + 1 := by rw [← e1, up_s]
    obtain ⟨s2, b1, b2, b3, b4⟩ := wr s1 _ k1 (by omega)
    have k2 : s2 48 68 = s 48 68 + 1 := by rw [b3 68 (by omega)]; exact k1
    have k0 : ∀ j : Int, j ≠ 68 → s1 48 j = s 48 j := fun j h => by rw [← e1, up_i _ _ _ _ h]
    refine ⟨s2, ?_, (show only [48] s s1 by rw [← e1]; exact only.up (by decide)).tr b2, fun j hj => by rw [b3 j (by omega), k0 j (by omega)], Or.inl ⟨by omega, k2, fun j h1 h2 => by rw [b3 j (by omega), k0 j (by omega)]⟩, ?_⟩
    · unfold m_isKept
      refine st_t i60 (st_gd (by decide) (st_bnd (st_f ?_ (st_gd (by decide) (st_gd (by decide) (st_be (e' := s1) ?_ b1))))))
      · rw [i68, i32_id (by omega) (by omega), i32_id (by omega) (by omega)]; exact h50
      · rw [i68]; exact e1
    · rw [k2, ← k0 0 (by decide)]
      exact b4
end
