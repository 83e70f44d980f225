set_option maxRecDepth 100000
/-! LAYER 2: a state is copied (system) -/
/-- a counted loop, whatever stands behind it -/
theorem forK {σ ρ κ : Type} (F : κ → Nat → Int → σ → ρ) (k : κ → σ → ρ) (N : Int) (I : Int → σ → Prop) (hN : 0 ≤ N) (hN2 : N < 1000000)
    (step : ∀ i s, I i s → 0 ≤ i → i < N → ∃ s', I (i + 1) s' ∧ ∀ K n, F K (n + 1) i s = F K n (i + 1) s') (exit : ∀ s, I N s → ∀ K n, F K (n + 1) N s = k K s) (s : σ) (h0 : I 0 s) :
    ∃ s', I N s' ∧ ∀ K, F K FU 0 s = k K s' := by
  have go : ∀ (d : Nat) (i : Int) (s : σ), 0 ≤ i → I i s → i + d = N → ∃ s', I N s' ∧ ∀ K (fuel : Nat), d < fuel → F K fuel i s = k K s' := by
    intro d
    induction d with
    | zero =>
      intro i s hi hI hd
      have e : i = N := by omega
      subst e
      refine ⟨s, hI, fun K fuel hf => ?_⟩
      obtain ⟨g, rfl⟩ : ∃ g, fuel = g + 1 := ⟨fuel - 1, by omega⟩
      exact exit s hI K g
    | succ d ih =>
      intro i s hi hI hd
      obtain ⟨s1, a1, a2⟩ := step i s hI hi (by omega)
      obtain ⟨s', b1, b2⟩ := ih (i + 1) s1 (by omega) a1 (by omega)
      refine ⟨s', b1, fun K fuel hf => ?_⟩
      obtain ⟨g, rfl⟩ : ∃ g, fuel = g + 1 := ⟨fuel - 1, by omega⟩
      rw [a2 K g]
      exact b2 K g (by omega)
  obtain ⟨s', a1, a2⟩ := go N.toNat 0 s (by omega) h0 (by omega)
  exact ⟨s', a1, fun K => a2 K FU (by have := FU_ge; omega)⟩
section
variable {τ τ' : XS} {c d : Int}
/-- two states' cells are apart -/
def apt (c d : Int) : Prop := c + 62 < d ∨ d + 62 < c
/-- the state at c is what the state at d was -/
def cpR (τ : XS) (c d : Int) (τ' : XS) : Prop := (∀ y, ¬ (c ≤ y ∧ y ≤ c + 62) → τ' y = τ y) ∧ (τ' c 0 = τ d 0 ∧ τ' c 1 = τ d 1 ∧ τ' c 2 = τ d 2) ∧ (∀ o : Int, 0 ≤ o → o < 6 → (τ' (c + 1) o = τ (d + 1) o ∧ τ' (c + 2) o = τ (d + 2) o ∧ τ' (c + 3) o = τ (d + 3) o) ∧ ∀ u : Int, 0 ≤ u → u < 7 → τ' (c + 5 + 1 + o) u = τ (d + 5 + 1 + o) u) ∧ (∀ k i : Int, 0 ≤ k → k < τ d 2 → 0 ≤ i → i < 3 → τ' (τ' (c + 12) k) i = τ (τ (d + 12) k) i) ∧ τ' (c + 12) = τ (c + 12) ∧ τ' (c + 4) = τ (c + 4)
theorem copy70 (hcd : apt c d) {o : Int} (ho : 0 ≤ o ∧ o < 6) (τ : XS) : ∃ τ', (∀ K, x7_copy_L70 c d K FU o 0 τ = K o τ') ∧ (∀ y, y ≠ c + 5 + 1 + o → τ' y = τ y) ∧ ∀ u : Int, 0 ≤ u → u < 7 → τ' (c + 5 + 1 + o) u = τ (d + 5 + 1 + o) u := by
  have io : i32 o = o := i32_id (by omega) (by omega)
  have oko : ok 6 o := by unfold ok; rw [io]; omega
  unfold apt at hcd
  obtain ⟨τ', ⟨q1, q2⟩, q3⟩ := forK (fun (K : Int → XS → Option (Int × XS)) f i t => x7_copy_L70 c d K f o i t) (fun K t => K o t) 7 (fun i t => (∀ y, y ≠ c + 5 + 1 + o → t y = τ y) ∧ ∀ u : Int, 0 ≤ u → u < i → t (c + 5 + 1 + o) u = τ (d + 5 + 1 + o) u) (by omega) (by omega)
    (fun i t hI h0 hi => by
      have ii : i32 i = i := i32_id (by omega) (by omega)
      have oki : ok 7 i := by unfold ok; rw [ii]; omega
      obtain ⟨t1, e1⟩ : ∃ t1, ux t (c + 5 + 1 + o) i (τ (d + 5 + 1 + o) i) = t1 := ⟨_, rfl⟩
      refine ⟨t1, ⟨fun y hy => by rw [← e1, ux_cell hy]; exact hI.1 y hy, fun u u0 u1 => ?_⟩, fun K f => ?_⟩
      · rw [← e1]
        by_cases e : u = i
        · rw [e, ux_s]
        · rw [ux_i _ _ _ _ e]; exact hI.2 u u0 (by omega)
      · rw [x7_copy_L70]
        refine st_f (by rw [ii, i32_id (by omega) (by omega)]; omega) (st_gd oko (st_gd oko (st_gd oki (st_gd oki (st_be (e' := t1) ?_ (st_bnd rfl))))))
        rw [io, ii, hI.1 _ (by omega)]; exact e1)
    (fun t hI K f => by
      rw [x7_copy_L70]
      exact st_t (Int.le_refl _) rfl) τ ⟨fun _ _ => rfl, fun u u0 u1 => by omega⟩
  exact ⟨τ', q3, q1, q2⟩
/-- the sayings' part -/
def cp2 (τ : XS) (c d : Int) (n : Int) (t : XS) : Prop := (∀ y, ¬ (c + 1 ≤ y ∧ y ≤ c + 3) → ¬ (c + 6 ≤ y ∧ y ≤ c + 11) → t y = τ y) ∧ ∀ o : Int, 0 ≤ o → o < n → (t (c + 1) o = τ (d + 1) o ∧ t (c + 2) o = τ (d + 2) o ∧ t (c + 3) o = τ (d + 3) o) ∧ ∀ u : Int, 0 ≤ u → u < 7 → t (c + 5 + 1 + o) u = τ (d + 5 + 1 + o) u
theorem copy26 (hcd : apt c d) (τ : XS) : ∃ τ', (∀ K, x7_copy_L26 c d K FU 0 τ = K τ') ∧ cp2 τ c d 6 τ' := by
  have hcd' := hcd
  unfold apt at hcd'
  obtain ⟨τ', q1, q3⟩ := forK (fun (K : XS → Option (Int × XS)) f i t => x7_copy_L26 c d K f i t) (fun K t => K t) 6 (fun i t => cp2 τ c d i t) (by omega) (by omega)
    (fun i t hI h0 hi => by
      have ii : i32 i = i := i32_id (by omega) (by omega)
      have oki : ok 6 i := by unfold ok; rw [ii]; omega
      obtain ⟨g1, g2⟩ := hI
      have hd : ∀ y, d ≤ y → y ≤ d + 62 → t y = τ y := fun y a b => g1 y (by omega) (by omega)
      obtain ⟨t1, e1⟩ : ∃ t1, ux t (c + 1) i (τ (d + 1) i) = t1 := ⟨_, rfl⟩
      obtain ⟨t2, e2⟩ : ∃ t2, ux t1 (c + 2) i (τ (d + 2) i) = t2 := ⟨_, rfl⟩
      obtain ⟨t3, e3⟩ : ∃ t3, ux t2 (c + 3) i (τ (d + 3) i) = t3 := ⟨_, rfl⟩
      have f3 : ∀ y, ¬ (c + 1 ≤ y ∧ y ≤ c + 3) → t3 y = t y := fun y h => by rw [← e3, ux_cell (by omega), ← e2, ux_cell (by omega), ← e1, ux_cell (by omega)]
      obtain ⟨t4, a1, a2, a3⟩ := copy70 hcd (o := i) ⟨h0, hi⟩ t3
      have w1 : ∀ j, t4 (c + 1) j = if j = i then τ (d + 1) i else t (c + 1) j := fun j => by
        rw [a2 _ (by omega), ← e3, ux_cell (by omega), ← e2, ux_cell (by omega), ← e1]
        by_cases e : j = i
        · rw [if_pos e, e, ux_s]
        · rw [if_neg e, ux_i _ _ _ _ e]
      have w2 : ∀ j, t4 (c + 2) j = if j = i then τ (d + 2) i else t (c + 2) j := fun j => by
        rw [a2 _ (by omega), ← e3, ux_cell (by omega), ← e2]
        by_cases e : j = i
        · rw [if_pos e, e, ux_s]
        · rw [if_neg e, ux_i _ _ _ _ e, ← e1, ux_cell (by omega)]
      have w3 : ∀ j, t4 (c + 3) j = if j = i then τ (d + 3) i else t (c + 3) j := fun j => by
        rw [a2 _ (by omega), ← e3]
        by_cases e : j = i
        · rw [if_pos e, e, ux_s]
        · rw [if_neg e, ux_i _ _ _ _ e, ← e2, ux_cell (by omega), ← e1, ux_cell (by omega)]
      refine ⟨t4, ⟨fun y h1 h2 => by rw [a2 y (by omega), f3 y h1]; exact g1 y h1 h2, fun o o0 o1 => ?_⟩, fun K f => ?_⟩
      · rw [w1, w2, w3]
        by_cases e : o = i
        · rw [if_pos e, if_pos e, if_pos e, e]
          refine ⟨⟨rfl, rfl, rfl⟩, fun u u0 u1 => ?_⟩
          rw [a3 u u0 u1, f3 _ (by omega), hd _ (by omega) (by omega)]
        · rw [if_neg e, if_neg e, if_neg e]
          refine ⟨(g2 o o0 (by omega)).1, fun u u0 u1 => ?_⟩
          rw [a2 _ (by omega), f3 _ (by omega)]
          exact (g2 o o0 (by omega)).2 u u0 u1
      · rw [x7_copy_L26]
        refine st_f (by rw [ii, i32_id (by omega) (by omega)]; omega) (st_gd oki (st_gd oki (st_be (e' := t1) ?_ (st_gd oki (st_gd oki (st_be (e' := t2) ?_ (st_gd oki (st_gd oki (st_be (e' := t3) ?_ (st_bnd ((a1 _).trans (st_bnd rfl))))))))))))
        · rw [ii, hd _ (by omega) (by omega)]; exact e1
        · rw [ii, ← e1, ux_cell (by omega), e1, hd _ (by omega) (by omega)]; exact e2
        · rw [ii, ← e2, ux_cell (by omega), ← e1, ux_cell (by omega), e1, e2, hd _ (by omega) (by omega)]; exact e3)
    (fun t hI K f => by
      rw [x7_copy_L26]
      exact st_t (Int.le_refl _) rfl) τ ⟨fun _ _ _ => rfl, fun u u0 u1 => by omega⟩
  exact ⟨τ', q3, q1⟩
/-- one row -/
theorem copy116 (hc : isSt c) (hd : isSt d) (hcd : apt c d) {k : Int} (hk : 0 ≤ k ∧ k < 50) (τ : XS) (h1 : c + 13 ≤ τ (c + 12) k ∧ τ (c + 12) k ≤ c + 62) (h2 : d + 13 ≤ τ (d + 12) k ∧ τ (d + 12) k ≤ d + 62) : ∃ τ', (∀ K, x7_copy_L116 c d K FU k 0 τ = K k τ') ∧ (∀ y, y ≠ τ (c + 12) k → τ' y = τ y) ∧ ∀ i : Int, 0 ≤ i → i < 3 → τ' (τ (c + 12) k) i = τ (τ (d + 12) k) i := by
  have ik : i32 k = k := i32_id (by omega) (by omega)
  have okk : ok 50 k := by unfold ok; rw [ik]; omega
  have hcb := isSt_b hc
  unfold apt at hcd
  obtain ⟨y, ey⟩ : ∃ y, τ (c + 12) k = y := ⟨_, rfl⟩
  obtain ⟨w, ew⟩ : ∃ w, τ (d + 12) k = w := ⟨_, rfl⟩
  rw [ey] at h1
  rw [ew] at h2
  rw [ey, ew]
  obtain ⟨τ', ⟨q1, q2⟩, q3⟩ := forK (fun (K : Int → XS → Option (Int × XS)) f i t => x7_copy_L116 c d K f k i t) (fun K t => K k t) 3 (fun i t => (∀ z, z ≠ y → t z = τ z) ∧ ∀ u : Int, 0 ≤ u → u < i → t y u = τ w u) (by omega) (by omega)
    (fun i t hI h0 hi => by
      have ii : i32 i = i := i32_id (by omega) (by omega)
      obtain ⟨g1, g2⟩ := hI
      have ty : t (c + 12) (i32 k) = y := by rw [ik, g1 _ (by omega)]; exact ey
      have tw : t (d + 12) (i32 k) = w := by rw [ik, g1 _ (by omega)]; exact ew
      have tww : t w = τ w := g1 w (by omega)
      have oks : ∀ z, (tg true t z = 101 ∧ ln true t z = 3) → ok (ln true t z) i := fun z hz => by rw [hz.2]; unfold ok; rw [ii]; omega
      obtain ⟨t1, e1⟩ : ∃ t1, ux t y i (τ w i) = t1 := ⟨_, rfl⟩
      refine ⟨t1, ⟨fun z hz => by rw [← e1, ux_cell hz]; exact g1 z hz, fun u u0 u1 => ?_⟩, fun K f => ?_⟩
      · rw [← e1]
        by_cases e : u = i
        · rw [e, ux_s]
        · rw [ux_i _ _ _ _ e]; exact g2 u u0 (by omega)
      · rw [x7_copy_L116, ty, tw]
        refine st_f (by rw [ii, i32_id (by omega) (by omega)]; omega) (st_gd okk (st_gd (row_tg hc h1 t).2.1 (st_gd okk (st_gd (row_tg hd h2 t).2.1 (st_gd (row_tg hd h2 t).1.1 (st_gd (oks w (row_tg hd h2 t).1) (st_gd (row_tg hc h1 t).1.1 (st_gd (row_tg hc h1 t).2.2 (st_gd (oks y (row_tg hc h1 t).1) (st_be (e' := t1) ?_ (st_bnd rfl)))))))))))
        rw [ii, tww]; exact e1)
    (fun t hI K f => by
      rw [x7_copy_L116]
      exact st_t (Int.le_refl _) rfl) τ ⟨fun _ _ => rfl, fun u u0 u1 => by omega⟩
  exact ⟨τ', q3, q1, q2⟩
theorem copy106 (hc : isSt c) (hd : isSt d) (hcd : apt c d) (τ : XS) (hr : rwR τ c) (hr2 : rwR τ d) {M : Int} (hM : τ c 2 = M) (hMb : 0 ≤ M ∧ M ≤ 50) : ∃ τ', (∀ K, x7_copy_L106 c d K FU 0 τ = K τ') ∧ (∀ y, ¬ (c + 13 ≤ y ∧ y ≤ c + 62) → τ' y = τ y) ∧ ∀ k i : Int, 0 ≤ k → k < M → 0 ≤ i → i < 3 → τ' (τ (c + 12) k) i = τ (τ (d + 12) k) i := by
  have hcb := isSt_b hc
  have hcd' := hcd
  unfold apt at hcd'
  obtain ⟨τ', ⟨q1, q2⟩, q3⟩ := forK (fun (K : XS → Option (Int × XS)) f i t => x7_copy_L106 c d K f i t) (fun K t => K t) M (fun n t => (∀ y, ¬ (c + 13 ≤ y ∧ y ≤ c + 62) → t y = τ y) ∧ ∀ k i : Int, 0 ≤ k → k < n → 0 ≤ i → i < 3 → t (τ (c + 12) k) i = τ (τ (d + 12) k) i) (by omega) (by omega)
    (fun n t hI h0 hi => by
      have ii : i32 n = n := i32_id (by omega) (by omega)
      obtain ⟨g1, g2⟩ := hI
      have tc : t (c + 12) = τ (c + 12) := g1 _ (by omega)
      have td : t (d + 12) = τ (d + 12) := g1 _ (by omega)
      obtain ⟨rc, rc2⟩ := hr n h0 (by omega)
      have rd := (hr2 n h0 (by omega)).1
      obtain ⟨t1, a1, a2, a3⟩ := copy116 hc hd hcd (k := n) ⟨h0, by omega⟩ t (by rw [tc]; exact rc) (by rw [td]; exact rd)
      rw [tc] at a2 a3
      rw [td] at a3
      refine ⟨t1, ⟨fun y hy => by rw [a2 y (by omega)]; exact g1 y hy, fun k i k0 k1 i0 i1 => ?_⟩, fun K f => ?_⟩
      · by_cases e : k = n
        · rw [e, a3 i i0 i1, g1 _ (by omega)]
        · have ne : τ (c + 12) k ≠ τ (c + 12) n := fun q => e ((hr k k0 (by omega)).2 n h0 (by omega) q)
          rw [a2 _ ne]
          exact g2 k i k0 (by omega) i0 i1
      · rw [x7_copy_L106]
        refine st_f ?_ (st_bnd ((a1 _).trans (st_bnd rfl)))
        rw [g1 c (by omega), hM, ii, i32_id (by omega) (by omega)]; omega)
    (fun t hI K f => by
      rw [x7_copy_L106]
      refine st_t ?_ rfl
      rw [hI.1 c (by omega), hM]
      exact Int.le_refl _) τ ⟨fun _ _ => rfl, fun k i k0 k1 => by omega⟩
  exact ⟨τ', q3, q1, q2⟩
theorem stcp_ev (hc : isSt c) (hd : isSt d) (hcd : apt c d) (τ : XS) (hr : rwR τ c) (hr2 : rwR τ d) (hMb : 0 ≤ τ d 2 ∧ τ d 2 ≤ 50) : ∃ τ', x7_copy c d τ = some (c, τ') ∧ cpR τ c d τ' := by
  have hcb := isSt_b hc
  have hdb := isSt_b hd
  have hcd' := hcd
  unfold apt at hcd'
  obtain ⟨t1, e1⟩ : ∃ t1, ux (ux (ux τ c 0 (τ d 0)) c 2 (τ d 2)) c 1 (τ d 1) = t1 := ⟨_, rfl⟩
  have f1 : ∀ y, y ≠ c → t1 y = τ y := fun y h => by rw [← e1, ux_cell h, ux_cell h, ux_cell h]
  have w0 : t1 c 0 = τ d 0 := by rw [← e1, ux_i _ _ _ _ (by decide), ux_i _ _ _ _ (by decide), ux_s]
  have w1 : t1 c 1 = τ d 1 := by rw [← e1, ux_s]
  have w2 : t1 c 2 = τ d 2 := by rw [← e1, ux_i _ _ _ _ (by decide), ux_s]
  obtain ⟨t2, a1, a2, a3⟩ := copy26 hcd t1
  have c2 : t2 c = t1 c := a2 c (by omega) (by omega)
  have f2 : ∀ y, ¬ (c ≤ y ∧ y ≤ c + 11) → t2 y = τ y := fun y h => by rw [a2 y (by omega) (by omega), f1 y (by omega)]
  obtain ⟨t3, b1, b2, b3⟩ := copy106 hc hd hcd t2 (hr.kept (f2 _ (by omega))) (hr2.kept (f2 _ (by omega))) (M := τ d 2) (by rw [c2]; exact w2) hMb
  have k3 : t3 (c + 12) = τ (c + 12) := by rw [b2 _ (by omega), f2 _ (by omega)]
  refine ⟨t3, ?_, fun y hy => by rw [b2 y (by omega), f2 y (by omega)], ⟨by rw [b2 c (by omega), c2]; exact w0, by rw [b2 c (by omega), c2]; exact w1, by rw [b2 c (by omega), c2]; exact w2⟩, fun o o0 o1 => ?_, fun k i k0 k1 i0 i1 => ?_, k3, ?_⟩
  · unfold x7_copy
    refine st_gd hc (st_gd hd (st_bnd (st_bnd (st_be (e' := t1) ?_ (st_bnd ((a1 _).trans (st_bnd ((b1 _).trans rfl))))))))
    simp only [ux_cell (show d ≠ c by omega)]
    exact e1
  · obtain ⟨p1, p2⟩ := a3 o o0 o1
    rw [f1 (d + 1) (by omega), f1 (d + 2) (by omega), f1 (d + 3) (by omega)] at p1
    refine ⟨by rw [b2 _ (by omega), b2 _ (by omega), b2 _ (by omega)]; exact p1, fun u u0 u1 => ?_⟩
    rw [b2 _ (by omega), p2 u u0 u1, f1 _ (by omega)]
  · have q := b3 k i k0 k1 i0 i1
    have rd := (hr2 k k0 (by omega)).1
    rw [f2 (c + 12) (by omega), f2 (d + 12) (by omega), f2 _ (by omega)] at q
    rw [k3]
    exact q
  · rw [b2 _ (by omega), a2 _ (by omega) (by omega), f1 _ (by omega)]
theorem cpR.st (h : cpR τ c d τ') {w : Int → Int} {n v : Int} (hn : n ≤ 6) (hv : v ≤ 7) (hs : stR τ d w n v) : stR τ' c w n v := by
  obtain ⟨-, ⟨h1, h2, -⟩, h3, -⟩ := h
  unfold stR
  rw [h1, h2]
  refine ⟨hs.1, hs.2.1, fun o o0 o1 => ?_⟩
  obtain ⟨⟨p1, p2, p3⟩, p4⟩ := h3 o o0 (by omega)
  rw [p1, p2, p3]
  refine ⟨(hs.2.2 o o0 o1).1, (hs.2.2 o o0 o1).2.1, (hs.2.2 o o0 o1).2.2.1, fun u u0 u1 => ?_⟩
  rw [p4 u u0 (by omega)]
  exact (hs.2.2 o o0 o1).2.2.2 u u0 u1
theorem cpR.kept (h : cpR τ c d τ') {w : Int → Int} (hk : kpR τ d w) : kpR τ' c w := by
  obtain ⟨-, ⟨-, -, h2⟩, -, h4, -⟩ := h
  refine ⟨by rw [h2]; exact hk.1, fun k i k0 k1 i0 i1 => ?_⟩
  rw [h4 k i k0 (by rw [hk.1.1]; exact k1) i0 i1]
  exact hk.2 k i k0 k1 i0 i1
theorem cpR.rows (h : cpR τ c d τ') (hr : rwR τ c) : rwR τ' c := hr.kept h.2.2.2.2.1
end
