set_option maxRecDepth 100000
/-! LAYER 2, base: how the functions are run -/
theorem gd_t {α : Type} {c : Prop} [Decidable c] {x : Option α} (h : c) : gd c x = x := if_pos h
theorem gd_T {α : Type} [Decidable True] {x : Option α} : gd True x = x := if_pos trivial
theorem gd_ok {α : Type} {n i : Int} {x : Option α} (h : 0 ≤ i) (h2 : i < n) (h3 : i < 2147483648) : gd (ok n i) x = x := if_pos (by unfold ok; rw [i32_id (by omega) h3]; exact ⟨h, h2⟩)
theorem bnd_r {β α : Type} (e : β) (f : β → Option α) : bnd e f = f e := (Eq.refl (f e)).trans (Eq.refl (f e))
theorem bind_s {β α : Type} (z : β) (f : β → Option α) : Option.bind (some z) f = f z := (Eq.refl (f z)).trans (Eq.refl (f z))
theorem ite_t {α : Type} {c : Prop} [Decidable c] {a b : α} (h : c) : (if c then a else b) = a := if_pos h
theorem ite_n {α : Type} {c : Prop} [Decidable c] {a b : α} (h : ¬ c) : (if c then a else b) = b := if_neg h
theorem ite_T {α : Type} [Decidable True] {a b : α} : (if True then a else b) = a := if_pos trivial
theorem ite_F {α : Type} [Decidable False] {a b : α} : (if False then a else b) = b := if_neg id
/-- a counted loop: F fuel i s -/
theorem for_loop {σ ρ : Type} (F : Nat → Int → σ → ρ) (k : σ → ρ) (N : Int) (I : Int → σ → Prop)
    (step : ∀ i s, I i s → i < N → ∃ s', I (i + 1) s' ∧ ∀ n, F (n + 1) i s = F n (i + 1) s') (exit : ∀ s, I N s → ∀ n, F (n + 1) N s = k s) :
    ∀ (d fuel : Nat) (i : Int) (s : σ), I i s → i + d = N → d < fuel → ∃ s', I N s' ∧ F fuel i s = k s' := by
  intro d
  induction d with
  | zero =>
    intro fuel i s hI hi hf
    obtain ⟨f, rfl⟩ : ∃ f, fuel = f + 1 := ⟨fuel - 1, by omega⟩
    have : i = N := by omega
    subst this
    exact ⟨s, hI, exit s hI f⟩
  | succ d ih =>
    intro fuel i s hI hi hf
    obtain ⟨f, rfl⟩ : ∃ f, fuel = f + 1 := ⟨fuel - 1, by omega⟩
    obtain ⟨s1, h1, h2⟩ := step i s hI (by omega)
    obtain ⟨s2, h3, h4⟩ := ih f (i + 1) s1 h1 (by omega) (by omega)
    exact ⟨s2, h3, by rw [h2, h4]⟩
theorem FU_s : ∃ f, FU = f + 1000 := ⟨FU - 1000, by have := FU_ge; omega⟩
/-- from 0 with the loops' own fuel -/
theorem for0 {σ ρ : Type} (F : Nat → Int → σ → ρ) (k : σ → ρ) (N : Int) (I : Int → σ → Prop) (hN : 0 ≤ N) (hN2 : N < 1000000)
    (step : ∀ i s, I i s → 0 ≤ i → i < N → ∃ s', I (i + 1) s' ∧ ∀ n, F (n + 1) i s = F n (i + 1) s') (exit : ∀ s, I N s → ∀ n, F (n + 1) N s = k s) (s : σ) (h0 : I 0 s) :
    ∃ s', I N s' ∧ F FU 0 s = k s' := by
  obtain ⟨s', h1, h2⟩ := for_loop F k N (fun i s => 0 ≤ i ∧ I i s) (fun i s h hi => by
    obtain ⟨s', h1, h2⟩ := step i s h.2 h.1 hi
    exact ⟨s', ⟨by omega, h1⟩, h2⟩) (fun s h => exit s h.2) N.toNat FU 0 s ⟨by omega, h0⟩ (by omega) (by have := FU_ge; omega)
  exact ⟨s', h1.2, h2⟩
/-- the reference: sayings, columns, rows -/
theorem m_sayingMany_ev (s : MS) : m_sayingMany s = some (s 36 2, s) := by
  unfold m_sayingMany
  simp (disch := omega) only [gd_t, gd_T, gd_ok, not_false_eq_true, eq_self, bnd_r, bind_s, ite_t, ite_n, ite_T, ite_F, i32_id]
theorem m_columnOf_ev {a : Int} (s : MS) (h : 0 ≤ a ∧ a < 6) : m_columnOf a s = some (s 48 (8 + 10 * a), s) := by
  unfold m_columnOf
  simp (disch := omega) only [gd_t, gd_T, gd_ok, not_false_eq_true, eq_self, bnd_r, bind_s, ite_t, ite_n, ite_T, ite_F, i32_id]
theorem m_rowOf_ev {a : Int} (s : MS) (h : 0 ≤ a ∧ a < 6) : m_rowOf a s = some (s 48 (8 + 10 * a + 1), s) := by
  unfold m_rowOf
  simp (disch := omega) only [gd_t, gd_T, gd_ok, not_false_eq_true, eq_self, bnd_r, bind_s, ite_t, ite_n, ite_T, ite_F, i32_id]
theorem m_stepsTo_ev {x y a : Int} (s : MS) (h : 0 ≤ a ∧ a < 6) (h1 : 0 ≤ s 48 (8 + 10 * a) ∧ s 48 (8 + 10 * a) ≤ 9) (h2 : 0 ≤ s 48 (8 + 10 * a + 1) ∧ s 48 (8 + 10 * a + 1) ≤ 9) (h3 : 0 ≤ x ∧ x ≤ 9) (h4 : 0 ≤ y ∧ y ≤ 9) :
    m_stepsTo x y a s = some (((s 48 (8 + 10 * a) - x).natAbs : Int) + ((s 48 (8 + 10 * a + 1) - y).natAbs : Int), s) := by
  unfold m_stepsTo
  simp (disch := omega) only [gd_t, gd_T, gd_ok, not_false_eq_true, eq_self, bnd_r, bind_s, ite_t, ite_n, ite_T, ite_F, i32_id, m_columnOf_ev, m_rowOf_ev]
  by_cases c1 : 0 ≤ s 48 (8 + 10 * a) - x <;> by_cases c2 : 0 ≤ s 48 (8 + 10 * a + 1) - y <;> simp (disch := omega) only [gd_t, gd_T, gd_ok, not_false_eq_true, eq_self, bnd_r, bind_s, ite_t, ite_n, ite_T, ite_F, i32_id] <;> congr 2 <;> omega
