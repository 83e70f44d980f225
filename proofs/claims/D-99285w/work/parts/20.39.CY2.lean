set_option maxRecDepth 100000
/-! LAYER 2: one statement of a country: what both keep -/
section
variable {T : Int → Int} {n p : Int} {τb τ τ' : XS} {s s' s0 : MS} {c : Int}
/-- what the reading of a country keeps of the system -/
def exc (τ0 τ : XS) : Prop := (τ0 (-1) 0 ≤ τ (-1) 0 ∧ τ0 (-1) 1 ≤ τ (-1) 1) ∧ (∀ i, 2 ≤ i → τ (-1) i = τ0 (-1) i) ∧ (∀ y, y ≠ -1 → y ≠ 7 → y ≠ 8 → y < τ0 (-1) 0 → τ y = τ0 y) ∧ ∀ i, i ≠ 2 → i ≠ 3 → i ≠ 4 → i ≠ 5 → τ 7 i = τ0 7 i
theorem ext.exc (h : ext τ τ') : exc τ τ' := ⟨h.1, h.2.1, h.2.2.1, fun i a b c _ => h.2.2.2 i a b c⟩
theorem exc.tr (h : exc τb τ) (h2 : exc τ τ') : exc τb τ' := by
  obtain ⟨a1, a2, a3, a4⟩ := h
  obtain ⟨b1, b2, b3, b4⟩ := h2
  refine ⟨by omega, fun i hi => by rw [b2 i hi, a2 i hi], fun y h1 h2 h3 h4 => by rw [b3 y h1 h2 h3 (by omega), a3 y h1 h2 h3 h4], fun i h1 h2 h3 h4 => by rw [b4 i h1 h2 h3 h4, a4 i h1 h2 h3 h4]⟩
theorem exc.ex (h : exc τb τ) (h2 : ext τ τ') : exc τb τ' := h.tr h2.exc
theorem exc.u5 (h : exc τb τ) {x : Int} : exc τb (ux τ 7 5 x) := by
  obtain ⟨a1, a2, a3, a4⟩ := h
  refine ⟨by rw [u7_N, u7_N]; exact a1, fun i hi => by rw [u7_N]; exact a2 i hi, fun y h1 h2 h3 h4 => by rw [ux_cell h2]; exact a3 y h1 h2 h3 h4, fun i h1 h2 h3 h4 => by rw [ux_i _ _ _ _ h4]; exact a4 i h1 h2 h3 h4⟩
theorem exc.un (h : exc τb τ) {y i x : Int} (hy : τb (-1) 0 ≤ y) (h0 : 1514 ≤ y) : exc τb (ux τ y i x) := by
  obtain ⟨a1, a2, a3, a4⟩ := h
  refine ⟨by rw [ux_cell (by omega)]; exact a1, fun i hi => by rw [ux_cell (by omega)]; exact a2 i hi, fun y h1 h2 h3 h4 => by rw [ux_cell (by omega)]; exact a3 y h1 h2 h3 h4, fun i h1 h2 h3 h4 => by rw [ux_cell (by omega)]; exact a4 i h1 h2 h3 h4⟩
/-- what the reading of a country keeps of the reference: the standing halves, and all else -/
def stl : List Nat := [2, 4, 5, 6, 34, 96, 97, 98, 99, 100, 101, 47, 35, 36, 37, 38, 39, 40, 41, 42, 43, 44, 45]
def stk (s s' : MS) : Prop := only stl s s' ∧ (∀ i : Int, 2 ≤ i → s' 35 i = s 35 i ∧ s' 36 i = s 36 i) ∧ (∀ i : Int, 16 ≤ i → s' 37 i = s 37 i) ∧ (∀ i : Int, 14 ≤ i → s' 39 i = s 39 i) ∧ (∀ i : Int, 3 ≤ i → s' 41 i = s 41 i ∧ s' 42 i = s 42 i) ∧ ∀ i : Int, 1600 ≤ i → s' 43 i = s 43 i
theorem stk.tr {s1 s2 : MS} (h : stk s s1) (h2 : stk s1 s2) : stk s s2 := by
  obtain ⟨a1, a2, a3, a4, a5, a6⟩ := h
  obtain ⟨b1, b2, b3, b4, b5, b6⟩ := h2
  refine ⟨fun k hk => by rw [b1 k hk, a1 k hk], fun i hi => ?_, fun i hi => by rw [b3 i hi, a3 i hi], fun i hi => by rw [b4 i hi, a4 i hi], fun i hi => ?_, fun i hi => by rw [b6 i hi, a6 i hi]⟩
  · rw [(b2 i hi).1, (b2 i hi).2]; exact a2 i hi
  · rw [(b5 i hi).1, (b5 i hi).2]; exact a5 i hi
theorem stk.of {ks : List Nat} (h : only ks s s') (hk : ∀ k ∈ ks, k ∈ ([2, 4, 5, 6, 34, 96, 97, 98, 99, 100, 101, 47, 38, 40, 44, 45] : List Nat)) : stk s s' := by
  have m : ∀ k, k ∉ ([2, 4, 5, 6, 34, 96, 97, 98, 99, 100, 101, 47, 38, 40, 44, 45] : List Nat) → s' k = s k := fun k q => h k (fun q2 => q (hk k q2))
  refine ⟨fun k q => m k (fun q2 => q ?_), fun i _ => ?_, fun i _ => ?_, fun i _ => ?_, fun i _ => ?_, fun i _ => ?_⟩
  · revert q2
    exact (by decide : ∀ k ∈ ([2, 4, 5, 6, 34, 96, 97, 98, 99, 100, 101, 47, 38, 40, 44, 45] : List Nat), k ∈ stl) k
  · rw [m 35 (by decide), m 36 (by decide)]; exact ⟨rfl, rfl⟩
  · rw [m 37 (by decide)]
  · rw [m 39 (by decide)]
  · rw [m 41 (by decide), m 42 (by decide)]; exact ⟨rfl, rfl⟩
  · rw [m 43 (by decide)]
theorem stk.wr {k : Nat} {i x : Int} (hk : (k = 35 ∧ i < 2) ∨ (k = 36 ∧ i < 2) ∨ (k = 37 ∧ i < 16) ∨ (k = 39 ∧ i < 14) ∨ ((k = 41 ∨ k = 42) ∧ i < 3) ∨ (k = 43 ∧ i < 1600)) : stk s (up s k i x) := by
  have ne : ∀ (k' : Nat) (j : Int), (k' ≠ k ∨ j ≠ i) → up s k i x k' j = s k' j := fun k' j h => by
    by_cases e : k' = k
    · rw [e]
      rw [up_i]
      rcases h with h | h
      · exact absurd e h
      · exact h
    · rw [up_row e]
  refine ⟨fun k' q => ?_, fun j hj => ⟨ne _ _ ?_, ne _ _ ?_⟩, fun j hj => ne _ _ ?_, fun j hj => ne _ _ ?_, fun j hj => ⟨ne _ _ ?_, ne _ _ ?_⟩, fun j hj => ne _ _ ?_⟩
  · refine up_row (fun e => q ?_)
    rw [e]
    rcases hk with ⟨h, -⟩ | ⟨h, -⟩ | ⟨h, -⟩ | ⟨h, -⟩ | ⟨h | h, -⟩ | ⟨h, -⟩ <;> rw [h] <;> decide
  all_goals
    by_cases e : j = i
    · left; omega
    · exact Or.inr e
/-- the country's cells are new -/
def lsb (τb τ : XS) (c : Int) : Prop := τb (-1) 0 ≤ c ∧ (τb (-1) 0 ≤ τ c 4 ∧ τb (-1) 0 ≤ τ (τ c 4) 1) ∧ (τb (-1) 0 ≤ τ c 5 ∧ τb (-1) 0 ≤ τ (τ c 5) 1)
theorem lsb.kp {es fs : List Int} (h : lsb τb τ c) (ha : al τ) (hc : cyS τ c es fs) (hk : kps τ τ') : lsb τb τ' c := by
  have t := hc.tags
  have ec := hk.2 c (new_fre hc.1.1) (tag_lt ha t.1 (by decide))
  have e4 := hk.2 (τ c 4) (new_fre hc.2.2.1.1.1.1) (tag_lt ha t.2.1 (by decide))
  have e5 := hk.2 (τ c 5) (new_fre hc.2.2.2.1.1.1) (tag_lt ha t.2.2.2.1 (by decide))
  unfold lsb
  rw [ec, e4, e5]
  exact h
theorem lsb.wr {es fs : List Int} (h : lsb τb τ c) (hc : cyS τ c es fs) {i x : Int} (hi : i ≠ 4 ∧ i ≠ 5) : lsb τb (ux τ c i x) c := by
  have t := hc.tags
  have n1 : τ c 4 ≠ c := fun e => by rw [e] at t; omega
  have n2 : τ c 5 ≠ c := fun e => by rw [e] at t; omega
  unfold lsb
  rw [ux_i _ _ _ _ (Ne.symm hi.1), ux_i _ _ _ _ (Ne.symm hi.2), ux_cell n1, ux_cell n2]
  exact h
/-- what both do with the rest of a statement, behind its word -/
def StR (v : Int) (T : Int → Int) (n : Int) (τb : XS) (c r : Int) (τ : XS) (s : MS) (xe : Option RX) (me : Option (Int × MS)) : Prop :=
  (∃ τ' z s' p' pm es fs ws vs, xe = some (0, v, τ') ∧ me = some (z, s') ∧ (xG T n τ' p' ∧ exc τb τ' ∧ τ' 7 4 = 0) ∧ (mG T n s' pm ∧ stk s s' ∧ rn qB T n pm = rn qB T n p') ∧ (CYR τ' s' c 1 es fs ws vs ∧ s' 44 0 ≤ p' ∧ lsb τb τ' c) ∧ r < p' ∧ rmo (60 * (p' - r)) (500 * (p' - r) + 4 * wlq T n p') τ τ') ∨
  (∃ kd pl τ' z s', xe = some (1, 0, τ') ∧ (exc τb τ' ∧ al τ' ∧ τ' 8 6 = kd ∧ τ' 8 7 = pl) ∧ rmo (60 * (n - r) + 100) (500 * (n - r) + 600) τ τ' ∧ (me = some (z, s') ∧ stk s s' ∧ s' 5 0 = kd ∧ s' 6 0 = pl) ∧ 1 ≤ kd ∧ kd ≤ 5) ∨
  (∃ q τ' z s', xe = some (1, 0, τ') ∧ (exc τb τ' ∧ al τ' ∧ τ' 8 6 = 1 ∧ τ' 8 7 = q) ∧ rmo (60 * (n - r) + 100) (500 * (n - r) + 600) τ τ' ∧ (me = some (z, s') ∧ stk s s' ∧ mG T n s' q) ∧ rn qB T n q = q ∧ qL (bA T n q) = true)
theorem xB.exc {kd pl : Int} (h : exc τb τ) (h2 : xB kd pl τ τ') : exc τb τ' ∧ al τ' ∧ τ' 8 6 = kd ∧ τ' 8 7 = pl := ⟨h.ex h2.1, h2.2⟩
/-- a plain field of the country is written -/
theorem cyS.wr {es fs : List Int} (hc : cyS τ c es fs) {i x : Int} (hi : 0 ≤ i ∧ i ≠ 4 ∧ i ≠ 5) : cyS (ux τ c i x) c es fs ∧ ∀ y, cyn τ c y → ux τ c i x y = τ y ∧ cyn (ux τ c i x) c y := by
  have t := hc.tags
  have n1 : τ c 4 ≠ c := fun e => by rw [e] at t; omega
  have n2 : τ c 5 ≠ c := fun e => by rw [e] at t; omega
  have n3 : τ (τ c 4) 1 ≠ c := fun e => by rw [e] at t; omega
  have n4 : τ (τ c 5) 1 ≠ c := fun e => by rw [e] at t; omega
  have w4 : ux τ c i x c 4 = τ c 4 := ux_i _ _ _ _ (by omega)
  have w5 : ux τ c i x c 5 = τ c 5 := ux_i _ _ _ _ (by omega)
  have wt : ux τ c i x c (-1) = τ c (-1) := ux_i _ _ _ _ (by omega)
  have e4 : ux τ c i x (τ c 4) = τ (τ c 4) := ux_cell n1
  have e5 : ux τ c i x (τ c 5) = τ (τ c 5) := ux_cell n2
  have e6 : ux τ c i x (τ (τ c 4) 1) = τ (τ (τ c 4) 1) := ux_cell n3
  have e7 : ux τ c i x (τ (τ c 5) 1) = τ (τ (τ c 5) 1) := ux_cell n4
  have hN : ux τ c i x (-1) = τ (-1) := ux_cell (by have := hc.1.1; omega)
  obtain ⟨h1, h2, ⟨h3, h4⟩, h5, h6⟩ := hc
  have q3 := h3.kep2 e4 e6
  have q5 := h5.kep2 e5 e7
  constructor
  · unfold cyS
    rw [w4, w5, wt, e4, e5, e6, e7]
    exact ⟨h1, h2, ⟨q3, h4⟩, q5, h6⟩
  · intro y hy
    refine ⟨ux_cell hy.2.1, ?_⟩
    unfold cyn
    rw [w4, w5, e4, e5, hN]
    exact hy
end
