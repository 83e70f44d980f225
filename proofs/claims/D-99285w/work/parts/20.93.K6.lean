set_option maxRecDepth 100000
/-! LAYER 2: what was seen, counted by the system and tested by the reference -/
/-- how many of the first ones -/
def cntB (p : Int → Bool) : Nat → Int
  | 0 => 0
  | n + 1 => cntB p n + (if p n = true then 1 else 0)
theorem cntB_b (p : Int → Bool) (n : Nat) : 0 ≤ cntB p n ∧ cntB p n ≤ n := by
  induction n with
  | zero => exact ⟨Int.le_refl _, Int.le_refl _⟩
  | succ n ih => unfold cntB; split <;> omega
theorem cntB_sub {p q : Int → Bool} (n : Nat) (h : ∀ r : Int, 0 ≤ r → r < n → p r = true → q r = true) : cntB p n ≤ cntB q n ∧ (cntB p n = cntB q n ↔ ∀ r : Int, 0 ≤ r → r < n → q r = true → p r = true) := by
  induction n with
  | zero => exact ⟨Int.le_refl _, fun _ r r0 r1 => by omega, fun _ => rfl⟩
  | succ n ih =>
    obtain ⟨h1, h2⟩ := ih (fun r r0 r1 => h r r0 (by omega))
    have hn := h n (by omega) (by omega)
    unfold cntB
    by_cases c1 : q n = true
    · by_cases c2 : p n = true
      · rw [if_pos c1, if_pos c2]
        refine ⟨by omega, fun e r r0 r1 hq => ?_, fun e => ?_⟩
        · by_cases er : r = n
          · rw [er]; exact c2
          · exact h2.mp (by omega) r r0 (by omega) hq
        · have := h2.mpr (fun r r0 r1 => e r r0 (by omega)); omega
      · rw [if_pos c1, if_neg c2]
        refine ⟨by omega, fun e => by omega, fun e => absurd (e n (by omega) (by omega) c1) c2⟩
    · have c2 : ¬ p n = true := fun q => c1 (hn q)
      rw [if_neg c1, if_neg c2]
      refine ⟨by omega, fun e r r0 r1 hq => ?_, fun e => ?_⟩
      · by_cases er : r = n
        · rw [er] at hq; exact absurd hq c1
        · exact h2.mp (by omega) r r0 (by omega) hq
      · have := h2.mpr (fun r r0 r1 => e r r0 (by omega)); omega
theorem cntB_lt (dy : Int → Int) (k : Int) (n : Nat) : cntB (fun r => decide (dy r < k + 1)) n = cntB (fun r => decide (dy r < k)) n + cntB (fun r => decide (dy r = k)) n := by
  induction n with
  | zero => rfl
  | succ n ih =>
    unfold cntB
    simp only [decide_eq_true_eq]
    rw [ih]
    by_cases a : dy n < k
    · rw [if_pos (by omega), if_pos a, if_neg (by omega)]; omega
    · by_cases b : dy n = k
      · rw [if_pos (by omega), if_neg a, if_pos b]; omega
      · rw [if_neg (by omega), if_neg a, if_neg b]; omega
theorem cntB_all {p : Int → Bool} (n : Nat) (h : ∀ r : Int, 0 ≤ r → r < n → p r = true) : cntB p n = n := by
  induction n with
  | zero => rfl
  | succ n ih =>
    unfold cntB
    rw [ih (fun r r0 r1 => h r r0 (by omega)), if_pos (h n (by omega) (by omega))]
    omega
theorem cntB_no {p : Int → Bool} (n : Nat) (h : ∀ r : Int, 0 ≤ r → r < n → ¬ p r = true) : cntB p n = 0 := by
  induction n with
  | zero => rfl
  | succ n ih =>
    unfold cntB
    rw [ih (fun r r0 r1 => h r r0 (by omega)), if_neg (h n (by omega) (by omega))]
    omega
section
variable {τ τ' τ'' : XS} {s s' : MS} {N c a b : Int} {es fs : List Int} {ws vs : List (List Int)}
/-- the reference: a row of that day that was met -/
def metB (m : MS) (k r : Int) : Bool := decide (m 65 (3 * r) = k) && decide (m 62 (m 65 (3 * r + 1)) = m 65 (3 * r + 2))
def dayB (m : MS) (k r : Int) : Bool := decide (m 65 (3 * r) = k)
/-- the rows, as both hold them, and the gifts -/
def RWs (t : XS) (m : MS) (n v : Int) : Prop := iRow t m n v ∧ (∀ j : Int, 0 ≤ j → j < n → t 103 j = m 62 j ∧ -1 ≤ m 62 j ∧ m 62 j ≤ 6) ∧ n ≤ 6 ∧ v ≤ 7
theorem rows_x {t : XS} {m : MS} {n v : Int} (h : RWs t m n v) {x1 x2 k : Int} (hk : 0 ≤ k ∧ k ≤ 100) (K : Int → Int → Int → Int → XS → Option (Int × XS)) : ∀ (d : Nat) (r : Nat) (x3 : Int) (f : Nat), r + d = (m 64 0).toNat → d + 1 ≤ f → x0_canBe_L65 K f x1 x2 x3 k r t = K x1 x2 (x3 + cntB (metB m k) (m 64 0).toNat - cntB (metB m k) r) k t := by
  obtain ⟨⟨⟨h1, h2, h3⟩, h4⟩, h5, hn, hv⟩ := h
  intro d
  induction d with
  | zero =>
    intro r x3 f hr hf
    cases f with
    | zero => omega
    | succ f =>
      have e : r = (m 64 0).toNat := by omega
      rw [x0_canBe_L65, ← e, show x3 + cntB (metB m k) r - cntB (metB m k) r = x3 by omega]
      refine st_t ?_ rfl
      rw [h1, i32_id (by omega) (by omega), i32_id (by omega) (by omega)]
      omega
  | succ d ih =>
    intro r x3 f hr hf
    cases f with
    | zero => omega
    | succ f =>
      have ir : i32 (r : Int) = r := i32_id (by omega) (by omega)
      have okr : ok 16 (r : Int) := by unfold ok; rw [ir]; omega
      obtain ⟨⟨a1, a2⟩, ⟨b1, b2⟩, ⟨c1, c2⟩⟩ := h4 r (by omega) (by omega)
      have hc : cntB (metB m k) (r + 1) = cntB (metB m k) r + (if metB m k r = true then 1 else 0) := rfl
      have i162 : i32 (t 162 (i32 r)) = m 65 (3 * (r : Int)) := by rw [ir, a1]; exact i32_id (by omega) (by omega)
      have i163 : i32 (t 163 (i32 r)) = m 65 (3 * (r : Int) + 1) := by rw [ir, b1]; exact i32_id (by omega) (by omega)
      have i164 : i32 (t 164 (i32 r)) = m 65 (3 * (r : Int) + 2) := by rw [ir, c1]; exact i32_id (by omega) (by omega)
      obtain ⟨g1, g2⟩ := h5 (m 65 (3 * (r : Int) + 1)) b2.1 b2.2
      have i103 : i32 (t 103 (i32 (t 163 (i32 r)))) = m 62 (m 65 (3 * (r : Int) + 1)) := by rw [i163, g1]; exact i32_id (by omega) (by omega)
      have ik : i32 k = k := i32_id (by omega) (by omega)
      have nr : ¬ i32 (t 0 16) ≤ i32 (r : Int) := by rw [ir, h1, i32_id (by omega) (by omega)]; omega
      have ok163 : ok 6 (t 163 (i32 r)) := by unfold ok; rw [i163]; omega
      have step : ∀ y : Int, y = (if metB m k r = true then 1 else 0) → x0_canBe_L65 K f x1 x2 (x3 + y) k ((r : Int) + 1) t = K x1 x2 (x3 + cntB (metB m k) (m 64 0).toNat - cntB (metB m k) r) k t := by
        intro y ey
        have q := ih (r + 1) (x3 + y) f (by omega) (by omega)
        rw [show ((r + 1 : Nat) : Int) = (r : Int) + 1 by omega, hc, ← ey] at q
        rw [q, show x3 + y + cntB (metB m k) (m 64 0).toNat - (cntB (metB m k) r + y) = x3 + cntB (metB m k) (m 64 0).toNat - cntB (metB m k) r by omega]
      rw [x0_canBe_L65]
      refine st_f nr (st_gd okr (st_bnd (st_bnd ?_)))
      by_cases q1 : m 65 (3 * (r : Int)) = k
      · refine st_t (by rw [i162, ik]; exact q1) (st_gd okr (st_gd ok163 (st_gd okr ?_)))
        by_cases q2 : m 62 (m 65 (3 * (r : Int) + 1)) = m 65 (3 * (r : Int) + 2)
        · exact st_t (by rw [i103, i164]; exact q2) (st_bnd (st_bnd (step 1 (by rw [if_pos (by unfold metB; rw [decide_eq_true q1, decide_eq_true q2]; rfl)]))))
        · exact st_f (by rw [i103, i164]; exact q2) (st_bnd (st_bnd (step 0 (by rw [if_neg (by unfold metB; rw [decide_eq_false q2, Bool.and_false]; decide)]))))
      · exact st_f (by rw [i162, ik]; exact q1) (st_bnd (st_bnd (step 0 (by rw [if_neg (by unfold metB; rw [decide_eq_false q1, Bool.false_and]; decide)]))))
/-- the reference: all of that day were met -/
theorem rows_m {m : MS} {n v : Int} (hr : (0 ≤ m 64 0 ∧ m 64 0 ≤ 16) ∧ ∀ k : Int, 0 ≤ k → k < m 64 0 → (0 ≤ m 65 (3 * k) ∧ m 65 (3 * k) ≤ 20) ∧ (0 ≤ m 65 (3 * k + 1) ∧ m 65 (3 * k + 1) < n) ∧ (-1 ≤ m 65 (3 * k + 2) ∧ m 65 (3 * k + 2) < v)) (hg : ∀ j : Int, 0 ≤ j → j < n → -1 ≤ m 62 j ∧ m 62 j ≤ 6) (hn : n ≤ 6) (hv : v ≤ 7) (hd : 0 ≤ m 48 0 ∧ m 48 0 ≤ 5000) {k : Int} (hk : 0 ≤ k ∧ k ≤ 100) (G : Int → Prop) (hG : ∀ r, G r ↔ (m 65 (3 * r) = k → m 48 0 ≤ 999 ∧ m 62 (m 65 (3 * r + 1)) = m 65 (3 * r + 2))) : ∀ (d : Nat) (r : Int) (f : Nat), 0 ≤ r → r + d = m 64 0 → d + 1 ≤ f → (∀ j : Int, 0 ≤ j → j < r → G j) → ∃ z, m_isAsSeen_L2 (fun (s22 : MS) => some (1, s22)) (fun (s23 : MS) => some (0, s23)) f k r m = some (z, m) ∧ (z = 0 ∨ z = 1) ∧ (z = 1 ↔ ∀ j : Int, 0 ≤ j → j < m 64 0 → G j) := by
  obtain ⟨⟨h2, h3⟩, h4⟩ := hr
  intro d
  induction d with
  | zero =>
    intro r f r0 hr hf hp
    cases f with
    | zero => omega
    | succ f =>
      have e : r = m 64 0 := by omega
      refine ⟨1, ?_, Or.inr rfl, fun _ => by rw [← e]; exact hp, fun _ => rfl⟩
      rw [m_isAsSeen_L2, e]
      exact st_t (Int.le_refl _) rfl
  | succ d ih =>
    intro r f r0 hr hf hp
    cases f with
    | zero => omega
    | succ f =>
      have ir : i32 r = r := i32_id (by omega) (by omega)
      have j0 : i32 (3 * r) = 3 * r := i32_id (by omega) (by omega)
      have j1 : i32 (3 * r + 1) = 3 * r + 1 := i32_id (by omega) (by omega)
      have j2 : i32 (3 * r + 2) = 3 * r + 2 := i32_id (by omega) (by omega)
      have ok0 : ok 48 (3 * r) := by unfold ok; rw [j0]; omega
      have ok1 : ok 48 (3 * r + 1) := by unfold ok; rw [j1]; omega
      have ok2 : ok 48 (3 * r + 2) := by unfold ok; rw [j2]; omega
      obtain ⟨a2, b2, c2⟩ := h4 r (by omega) (by omega)
      have g2 := hg _ b2.1 b2.2
      have i65 : i32 (m 65 (i32 (3 * r))) = m 65 (3 * r) := by rw [j0]; exact i32_id (by omega) (by omega)
      have i65b : i32 (m 65 (i32 (3 * r + 1))) = m 65 (3 * r + 1) := by rw [j1]; exact i32_id (by omega) (by omega)
      have i65c : i32 (m 65 (i32 (3 * r + 2))) = m 65 (3 * r + 2) := by rw [j2]; exact i32_id (by omega) (by omega)
      have ok6 : ok 6 (m 65 (i32 (3 * r + 1))) := by unfold ok; rw [i65b]; omega
      have i62 : i32 (m 62 (i32 (m 65 (i32 (3 * r + 1))))) = m 62 (m 65 (3 * r + 1)) := by rw [i65b]; exact i32_id (by omega) (by omega)
      have ik : i32 k = k := i32_id (by omega) (by omega)
      have i48 : i32 (m 48 (i32 0)) = m 48 0 := by rw [i32_0]; exact i32_id (by omega) (by omega)
      have nr : ¬ i32 (m 64 0) ≤ i32 r := by rw [ir, i32_id (by omega) (by omega)]; omega
      have yes : G r → ∃ z, m_isAsSeen_L2 (fun (s22 : MS) => some (1, s22)) (fun (s23 : MS) => some (0, s23)) f k (r + 1) m = some (z, m) ∧ (z = 0 ∨ z = 1) ∧ (z = 1 ↔ ∀ j : Int, 0 ≤ j → j < m 64 0 → G j) := fun q => ih (r + 1) f (by omega) (by omega) (by omega) (fun j q0 q1 => by
        by_cases e : j = r
        · rw [e]; exact q
        · exact hp j q0 (by omega))
      have no : ¬ G r → ((0 : Int) = 0 ∨ (0 : Int) = 1) ∧ ((0 : Int) = 1 ↔ ∀ j : Int, 0 ≤ j → j < m 64 0 → G j) := fun q => ⟨Or.inl rfl, fun e => by omega, fun e => absurd (e r r0 (by omega)) q⟩
      rw [m_isAsSeen_L2]
      by_cases q1 : m 65 (3 * r) = k
      · by_cases q2 : 999 < m 48 0
        · exact ⟨0, st_f nr (st_gd ok0 (st_bnd (st_t (by rw [i65, ik]; exact q1) (st_gd (by decide) (st_t (by rw [i48, show i32 999 = 999 by decide]; exact q2) rfl))))), no (fun q => by have := ((hG r).mp q q1).1; omega)⟩
        · by_cases q3 : m 62 (m 65 (3 * r + 1)) = m 65 (3 * r + 2)
          · obtain ⟨z, z1, z2⟩ := yes ((hG r).mpr (fun _ => ⟨by omega, q3⟩))
            exact ⟨z, st_f nr (st_gd ok0 (st_bnd (st_t (by rw [i65, ik]; exact q1) (st_gd (by decide) (st_f (by rw [i48, show i32 999 = 999 by decide]; exact q2) (st_gd ok1 (st_gd ok6 (st_gd ok2 (st_t (by rw [i62, i65c]; exact q3) (st_bnd z1)))))))))), z2⟩
          · exact ⟨0, st_f nr (st_gd ok0 (st_bnd (st_t (by rw [i65, ik]; exact q1) (st_gd (by decide) (st_f (by rw [i48, show i32 999 = 999 by decide]; exact q2) (st_gd ok1 (st_gd ok6 (st_gd ok2 (st_f (by rw [i62, i65c]; exact q3) rfl))))))))), no (fun q => q3 ((hG r).mp q q1).2)⟩
      · obtain ⟨z, z1, z2⟩ := yes ((hG r).mpr (fun q => absurd q q1))
        exact ⟨z, st_f nr (st_gd ok0 (st_bnd (st_f (by rw [i65, ik]; exact q1) (st_bnd z1)))), z2⟩
end
