set_option maxRecDepth 100000
/-! LAYER 2: plain statements of a country -/
section
variable {T : Int → Int} {n p : Int} {τb τ τ' : XS} {s s' s0 : MS} {c : Int}
theorem tkN_end {p lo hi : Int} (h : (tkN T n p lo hi).1 = 0) : rn qB T n p < (tkN T n p lo hi).2.2 ∧ lo ≤ (tkN T n p lo hi).2.1 ∧ (tkN T n p lo hi).2.1 ≤ hi := by
  revert h
  unfold tkN
  split
  · rename_i c
    split
    · split
      · rename_i b
        intro _; exact ⟨rn_lt qD_1 c.1, b⟩
      · intro h; exact absurd h (by dsimp only; omega)
    · intro h; exact absurd h (by dsimp only; omega)
  · intro h; exact absurd h (by dsimp only; omega)
theorem strX.off {y : Int} {w : List Int} (h : strX τ y w) (hk : ∀ y, fre y → (τ y (-1) = 22 ∨ τ y (-1) = 102 ∨ τ y (-1) = 115) → τ' y = τ y) : strX τ' y w := h.kept (hk _ h.1.1 (Or.inl h.1.2)) (hk _ h.2.2.1.1 (Or.inr (Or.inl h.2.2.1.2)))
theorem aryX.off {y : Int} {ws : List (List Int)} (h : aryX τ y ws) (hk : ∀ y, fre y → (τ y (-1) = 22 ∨ τ y (-1) = 102 ∨ τ y (-1) = 115) → τ' y = τ y) : aryX τ' y ws := by
  have e := hk y h.1.1 (Or.inr (Or.inr h.1.2))
  obtain ⟨a1, a2, a3, a4⟩ := h
  refine ⟨by rw [e]; exact a1, by rw [e]; exact a2, a3, fun i w hi => ?_⟩
  rw [e]
  exact (a4 i w hi).off hk
theorem cst.off (h : cst τ) (hN : ∀ i, 2 ≤ i → τ' (-1) i = τ (-1) i) (hk : ∀ y, fre y → (τ y (-1) = 22 ∨ τ y (-1) = 102 ∨ τ y (-1) = 115) → τ' y = τ y) : cst τ' := by
  obtain ⟨a, b, c, d, e⟩ := h
  refine ⟨fun q hq => ?_, ?_, ?_, ?_, ?_⟩
  · rw [hN _ (csl_2 q hq)]; exact (a q hq).off hk
  · rw [hN _ (by decide)]; exact b.off hk
  · rw [hN _ (by decide)]; exact c.off hk
  · rw [hN _ (by decide)]; exact d.off hk
  · rw [hN _ (by decide)]; exact e.off hk
theorem xG.off (h : xG T n τ p) (ha : al τ') (hN : ∀ i, 2 ≤ i → τ' (-1) i = τ (-1) i) (h6 : τ' 6 = τ 6) (h71 : τ' 7 1 = τ 7 1) (h72 : τ' 7 2 = τ 7 2) (hk : ∀ y, fre y → (τ y (-1) = 22 ∨ τ y (-1) = 102 ∨ τ y (-1) = 115) → τ' y = τ y) : xG T n τ' p := by
  obtain ⟨a, b, c, d, e, f, g⟩ := h
  exact ⟨a, by rw [h6]; exact b, by rw [h71]; exact c, by rw [h72]; exact d, e, ha, g.off hN hk⟩
/-- a slot of the country is written -/
theorem xG.wr (h : xG T n τ p) (hc : 1514 ≤ c ∧ τ c (-1) = 2) {i x : Int} (hi : 0 ≤ i) : xG T n (ux τ c i x) p := by
  refine h.off (h.2.2.2.2.2.1.u (by omega) (by omega)) (fun i _ => by rw [ux_cell (by omega)]) (ux_cell (by omega)) (by rw [ux_cell (by omega)]) (by rw [ux_cell (by omega)]) (fun y _ ht => ux_cell (fun e => ?_))
  rw [e] at ht
  omega
theorem xG.c5 (h : xG T n τ p) (x : Int) : xG T n (ux τ 7 5 x) p := by
  refine h.off (h.2.2.2.2.2.1.u (by decide) (by decide)) (fun i _ => by rw [u7_N]) (ux_cell (by decide)) (by rw [ux_i _ _ _ _ (by decide)]) (by rw [ux_i _ _ _ _ (by decide)]) (fun y hf _ => ux_cell (fun e => ?_))
  rw [e] at hf
  unfold fre at hf
  omega
/-- 'the rest of the country' under the write of a plain field -/
theorem CYR.wr {es fs : List Int} {ws vs : List (List Int)} {d d' : Int} (h : CYR τ s c d es fs ws vs) (ha : al τ) {i x : Int} (hi : 0 ≤ i ∧ i ≠ 4 ∧ i ≠ 5) (hm : ∀ k ∈ ([36, 37, 38, 39] : List Nat), s' k = s k) (h44 : 0 ≤ s' 44 0) (hF : cyF (ux τ c i x) s' c d') (hL : lawT (ux τ c i x) s' c ∧ lawV (ux τ c i x) s' c 1 ∧ lawV (ux τ c i x) s' c 2) : CYR (ux τ c i x) s' c d' es fs ws vs := by
  obtain ⟨hc, ⟨a1, a2, a3⟩, ⟨b1, b2⟩, f, l, g⟩ := h
  obtain ⟨w1, w2⟩ := hc.wr (x := x) hi
  have wk : ∀ kd ws, wdsM s kd ws → wdsM s' kd ws := fun kd ws q => by
    unfold wdsM
    rw [hm 36 (by decide), hm 37 (by decide)]
    exact q
  have hk3 : ∀ y, fre y → (τ y (-1) = 9 ∨ τ y (-1) = 10 ∨ τ y (-1) = 22 ∨ τ y (-1) = 102) → ux τ c i x y = τ y := fun y hf ht => ux_cell (fun e => by rw [e] at ht; have := hc.1.2; omega)
  exact ⟨w1, ⟨⟨a1.1, fun i x w e1 e2 => (a1.2 i x w e1 e2).kept hk3 (fun j _ _ => by rw [hm 38 (by decide)])⟩, wk _ _ a2, a3⟩, ⟨⟨b1.1, fun i x w e1 e2 => (b1.2 i x w e1 e2).kept hk3 (fun j _ _ => by rw [hm 39 (by decide)])⟩, wk _ _ b2⟩, hF, hL, h44⟩
theorem lawT.wr {es fs : List Int} (h : lawT τ s c) (hc : cyS τ c es fs) {i x : Int} (hi : 0 ≤ i ∧ i ≠ 4 ∧ i ≠ 5 ∧ i ≠ 6) (hm : ∀ k ∈ ([41, 42, 43, 44] : List Nat), s' k = s k) : lawT (ux τ c i x) s' c := by
  obtain ⟨w1, w2⟩ := hc.wr (x := x) (i := i) (by omega)
  unfold lawT cdM
  rw [ux_i _ _ _ _ (show (6 : Int) ≠ i by omega), hm 41 (by decide), hm 42 (by decide), hm 43 (by decide), hm 44 (by decide)]
  rcases h with h | ⟨cs, h1, h2⟩
  · exact Or.inl h
  · exact Or.inr ⟨cs, XT_kept (fun y hy => (w2 y hy).1) (fun y hy => (w2 y hy).2) _ _ _ h1, h2⟩
theorem lawV.wr {es fs : List Int} {k : Int} (h : lawV τ s c k) (hc : cyS τ c es fs) {i x : Int} (hi : 0 ≤ i ∧ i ≠ 4 ∧ i ≠ 5 ∧ i ≠ 6 + k) (hm : ∀ k ∈ ([41, 42, 43, 44] : List Nat), s' k = s k) : lawV (ux τ c i x) s' c k := by
  obtain ⟨w1, w2⟩ := hc.wr (x := x) (i := i) (by omega)
  unfold lawV cdM
  rw [ux_i _ _ _ _ (show (6 + k : Int) ≠ i by omega), hm 41 (by decide), hm 42 (by decide), hm 43 (by decide), hm 44 (by decide)]
  rcases h with h | ⟨cs, h1, h2⟩
  · exact Or.inl h
  · exact Or.inr ⟨cs, XV_more (fun y hy => (w2 y hy).2) _ _ _ (XV_kept (fun y hy => (w2 y hy).1) _ _ _ h1), h2⟩
/-- the ditch's statement -/
theorem ditch_ok {pl : Int} {es fs : List Int} {ws vs : List (List Int)} (hG : xG T n τ p) (hM : mG T n s p) (hb : exc τb τ) (h4 : τ 7 4 = 0) (h6 : τ 7 6 = c) (hcb : lsb τb τ c) (hC : CYR τ s c 1 es fs ws vs) (h44 : s 44 0 ≤ p) :
    StR 0 T n τb c p τ s (xM2 pl 3 τ) (Option.bind (m_number 0 100 s) fun z20 => gd (ok 4 1) <| bnd (up z20.2 35 (i32 1) z20.1) fun s22 => some (0, s22)) := by
  have o41 : ok 4 1 := by decide
  have z1 : i32 1 = 1 := by decide
  have hp := hG.2.2.2.2.1
  have hle := rn_le (q := qB) (T := T) (n := n) p
  have hc := hC.1
  have c0 := hc.1.1
  have hal := hG.2.2.2.2.2.1
  obtain ⟨X1, X2⟩ := number_ev hG (lo := 0) (hi := 100) (by omega) (by omega)
  obtain ⟨M1, M2⟩ := m_number_ev hM (lo := 0) (hi := 100) (by omega) (by omega)
  have k0 : ¬ i32 3 = 0 := by decide
  have k1 : ¬ i32 3 = 1 := by decide
  have k2 : ¬ i32 3 = 2 := by decide
  have k3 : i32 3 = 3 := by decide
  have nn : ¬ τ 7 6 = -1 := by omega
  by_cases h0 : (tkN T n p 0 100).1 = 0
  · obtain ⟨τ1, x1, x2, x3, x4, x5⟩ := X1 h0
    obtain ⟨s1, m1, m2, m3⟩ := M1 h0
    obtain ⟨t1, t2⟩ := tkN_end h0
    generalize hV : (tkN T n p 0 100).2.1 = v at *
    generalize hE : (tkN T n p 0 100).2.2 = e at *
    have he := x3.2.2.2.2.1
    have hwl := wlq_b (T := T) he.2
    have C1 : CYR τ1 s1 c 1 es fs ws vs := hC.keep hal x2 (fun k hk => m2 k (by revert hk; exact (by decide : ∀ k ∈ cyk, k ∉ ([2, 4] : List Nat)) k))
    have al1 := x3.2.2.2.2.2.1
    have tc := tgf (t := 2) (new_fre c0) C1.1.1.2
    left
    refine ⟨ux τ1 c 3 v, 0, up s1 35 1 v, e, e, es, fs, ws, vs, ?_, ?_, ⟨x3.wr C1.1.1 (by decide), (hb.ex x2).un hcb.1 c0, by rw [ux_cell (by omega), x4]; exact h4⟩, ⟨?_, ?_, rfl⟩, ⟨?_, ?_, (hcb.kp hal hc x2.kps).wr C1.1 (by decide)⟩, by omega, ?_⟩
    · unfold xM2
      refine st_f k0 (st_f k1 (st_f k2 (st_t k3 (st_gd nn (st_bind x1 (st_t rfl (st_gd (by rw [h6]; exact tc) (st_gd (by rw [h6]; omega) (st_bnd ?_)))))))))
      rw [h6]
    · refine st_bind m1 (st_gd o41 (st_bnd ?_))
      rw [z1]
    · exact m3.of' (ks := [35]) (only.up (by decide)) (by decide)
    · exact (stk.of m2 (by decide)).tr (stk.wr (Or.inl ⟨rfl, by decide⟩))
    · have e35 : ∀ k, k ≠ 35 → up s1 35 1 v k = s1 k := fun k h => up_row h
      have ek : ∀ k ∈ ([41, 42, 43, 44] : List Nat), up s1 35 1 v k = s1 k := fun k h => e35 k (by revert h; exact (by decide : ∀ k ∈ ([41, 42, 43, 44] : List Nat), k ≠ 35) k)
      have f := C1.2.2.2.1
      refine C1.wr al1 (by decide) (fun k h => e35 k (by revert h; exact (by decide : ∀ k ∈ ([36, 37, 38, 39] : List Nat), k ≠ 35) k)) (by rw [e35 _ (by decide)]; exact C1.2.2.2.2.2) ?_ ⟨C1.2.2.2.2.1.1.wr C1.1 (by decide) ek, C1.2.2.2.2.1.2.1.wr C1.1 (by decide) ek, C1.2.2.2.2.1.2.2.wr C1.1 (by decide) ek⟩
      unfold cyF
      rw [ux_s, ux_i _ _ _ _ (by decide), ux_i _ _ _ _ (by decide), ux_i _ _ _ _ (by decide), e35 45 (by decide), e35 40 (by decide), up_s, up_i _ _ _ _ (by decide)]
      exact ⟨f.1, f.2.1, ⟨rfl, t2⟩, f.2.2.2⟩
    · rw [up_row (by decide), m2 44 (by decide)]
      omega
    · unfold rmo
      rw [ux_cell (by omega), x5]
      omega
  · obtain ⟨τ1, x1, x2, x3⟩ := X2 h0
    obtain ⟨v, s1, m1, m2, m3⟩ := M2 h0
    have hk := tkN_kd h0
    right; left
    refine ⟨_, _, τ1, 0, up s1 35 1 v, ?_, x2.exc hb, ?_, ⟨?_, ?_, ?_⟩, hk⟩
    · unfold xM2
      exact st_f k0 (st_f k1 (st_f k2 (st_t k3 (st_gd nn (st_bind x1 (st_f n_10 rfl))))))
    · unfold rmo
      rw [x3]
      omega
    · refine st_bind m1 (st_gd o41 (st_bnd ?_))
      rw [z1]
    · exact (stk.of m3.1 (by decide)).tr (stk.wr (Or.inl ⟨rfl, by decide⟩))
    · rw [up_row (by decide), up_row (by decide)]
      exact m3.2
end
