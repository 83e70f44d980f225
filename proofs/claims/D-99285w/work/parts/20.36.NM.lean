set_option maxRecDepth 100000
/-! LAYER 2: new names of both -/
section
variable {T : Int → Int} {n p : Int} {s : MS}
/-- names of a kind, as the reference keeps them -/
def nmB (s : MS) (kd : Int) : Prop := (0 ≤ s 36 kd ∧ s 36 kd ≤ 7) ∧ ∀ j : Int, 0 ≤ j → j < s 36 kd → 0 ≤ s 37 (8 * kd + j) ∧ s 37 (8 * kd + j) < 400000000
def usedN (s : MS) (kd v : Int) : Prop := ∃ j : Int, 0 ≤ j ∧ j < s 36 kd ∧ s 37 (8 * kd + j) = v
theorem n15_skip (K : Int → Int → MS → Option (Int × MS)) {kd v : Int} (hkd : 0 ≤ kd ∧ kd < 2) (hv : 0 ≤ v ∧ v < 400000000) (hb : nmB s kd) : ∀ (d fuel : Nat) (k : Int), 0 ≤ k → k + d = s 36 kd → d < fuel → ((1 ≤ s 5 0 ∧ s 5 0 ≤ 5) ∨ (s 5 0 = 0 ∧ ∀ j : Int, k ≤ j → j < s 36 kd → s 37 (8 * kd + j) ≠ v)) → m_newName_L15 K fuel v kd k s = K v kd s := by
  intro d
  induction d with
  | zero =>
    intro fuel k h0 hd hf hc
    obtain ⟨f, rfl⟩ : ∃ f, fuel = f + 1 := ⟨fuel - 1, by omega⟩
    have := hb.1
    rw [m_newName_L15]
    simp (disch := omega) only [gd_t, gd_T, gd_ok, not_false_eq_true, eq_self, bnd_r, bind_s, ite_t, ite_n, ite_T, ite_F, i32_id]
  | succ d ih =>
    intro fuel k h0 hd hf hc
    obtain ⟨f, rfl⟩ : ∃ f, fuel = f + 1 := ⟨fuel - 1, by omega⟩
    have h36 := hb.1
    have hk := hb.2 k h0 (by omega)
    have ih' := ih f (k + 1) (by omega) (by omega) (by omega) (by
      rcases hc with hc | ⟨h1, h2⟩
      · exact Or.inl hc
      · exact Or.inr ⟨h1, fun j q1 q2 => h2 j (by omega) q2⟩)
    rw [m_newName_L15]
    rcases hc with hc | ⟨h1, h2⟩
    · simp (disch := omega) only [gd_t, gd_T, gd_ok, not_false_eq_true, eq_self, bnd_r, bind_s, ite_t, ite_n, ite_T, ite_F, i32_id]
      exact ih'
    · have := h2 k (Int.le_refl _) (by omega)
      simp (disch := omega) only [gd_t, gd_T, gd_ok, not_false_eq_true, eq_self, bnd_r, bind_s, ite_t, ite_n, ite_T, ite_F, i32_id, h1, i64_id]
      exact ih'
theorem n15_hit (K : Int → Int → MS → Option (Int × MS)) {kd v : Int} (hkd : 0 ≤ kd ∧ kd < 2) (hv : 0 ≤ v ∧ v < 400000000) (hb : nmB s kd) (h5 : s 5 0 = 0) : ∀ (d fuel : Nat) (k : Int), 0 ≤ k → k + d = s 36 kd → d < fuel → (∃ j : Int, k ≤ j ∧ j < s 36 kd ∧ s 37 (8 * kd + j) = v) → m_newName_L15 K fuel v kd k s = K v kd (up (up s 5 0 3) 6 0 (s 34 0)) := by
  intro d
  induction d with
  | zero =>
    intro fuel k h0 hd hf hc
    obtain ⟨j, h1, h2, -⟩ := hc
    omega
  | succ d ih =>
    intro fuel k h0 hd hf hc
    obtain ⟨f, rfl⟩ : ∃ f, fuel = f + 1 := ⟨fuel - 1, by omega⟩
    have h36 := hb.1
    have hk := hb.2 k h0 (by omega)
    rw [m_newName_L15]
    by_cases c : s 37 (8 * kd + k) = v
    · have e36 : up (up s 5 0 3) 6 0 (s 34 0) 36 = s 36 := by rw [up_row (by decide), up_row (by decide)]
      have e37 : up (up s 5 0 3) 6 0 (s 34 0) 37 = s 37 := by rw [up_row (by decide), up_row (by decide)]
      have e5 : up (up s 5 0 3) 6 0 (s 34 0) 5 0 = 3 := by rw [up_row (by decide), up_s]
      have := n15_skip (s := up (up s 5 0 3) 6 0 (s 34 0)) K hkd hv (by unfold nmB; rw [e36, e37]; exact hb) d f (k + 1) (by omega) (by rw [e36]; omega) (by omega) (Or.inl (by rw [e5]; omega))
      simp (disch := omega) only [gd_t, gd_T, gd_ok, not_false_eq_true, eq_self, bnd_r, bind_s, ite_t, ite_n, ite_T, ite_F, i32_id, h5, i64_id, c, m_fail_ev h5]
      exact this
    · obtain ⟨j, q1, q2, q3⟩ := hc
      have ih' := ih f (k + 1) (by omega) (by omega) (by omega) ⟨j, by
        by_cases e : j = k
        · rw [e] at q3; exact absurd q3 c
        · omega, q2, q3⟩
      simp (disch := omega) only [gd_t, gd_T, gd_ok, not_false_eq_true, eq_self, bnd_r, bind_s, ite_t, ite_n, ite_T, ite_F, i32_id, h5, i64_id]
      exact ih'
theorem newName_L7 {v : Int} (hv : 0 ≤ v ∧ v < 400000000) (h0 : nmB s 0) (h1 : nmB s 1) (k : Int → MS → Option (Int × MS)) :
    (((1 ≤ s 5 0 ∧ s 5 0 ≤ 5) ∨ (s 5 0 = 0 ∧ ¬ usedN s 0 v ∧ ¬ usedN s 1 v)) → m_newName_L7 k FU v 0 s = k v s) ∧ ((s 5 0 = 0 ∧ (usedN s 0 v ∨ usedN s 1 v)) → m_newName_L7 k FU v 0 s = k v (up (up s 5 0 3) 6 0 (s 34 0))) := by
  obtain ⟨f, hf⟩ := FU_s
  have hFU := FU_ge
  have b0 := h0.1
  have b1 := h1.1
  have n2 : ¬ i32 2 ≤ i32 0 := by decide
  have n2' : ¬ i32 2 ≤ i32 (0 + 1) := by decide
  have y2 : i32 2 ≤ i32 (0 + 1 + 1) := by decide
  have unf : ∀ s, m_newName_L7 k FU v 0 s = m_newName_L15 (fun x1 x3 s32 => bnd (x3 + 1) fun x3_33 => m_newName_L7 k (f + 999) x1 x3_33 s32) FU v 0 0 s := by
    intro s
    conv => lhs; rw [hf, m_newName_L7]
    exact st_f n2 (st_bnd rfl)
  have unf1 : ∀ s, m_newName_L7 k (f + 999) v (0 + 1) s = m_newName_L15 (fun x1 x3 s32 => bnd (x3 + 1) fun x3_33 => m_newName_L7 k (f + 998) x1 x3_33 s32) FU v (0 + 1) 0 s := by
    intro s
    rw [m_newName_L7]
    exact st_f n2' (st_bnd rfl)
  have unf2 : ∀ s, m_newName_L7 k (f + 998) v (0 + 1 + 1) s = k v s := by
    intro s
    rw [m_newName_L7]
    exact if_pos y2
  have skip1 : ∀ s, nmB s 1 → ((1 ≤ s 5 0 ∧ s 5 0 ≤ 5) ∨ (s 5 0 = 0 ∧ ¬ usedN s 1 v)) → m_newName_L7 k (f + 999) v (0 + 1) s = k v s := by
    intro s hb hc
    have := hb.1
    rw [unf1, show (0 : Int) + 1 = 1 from rfl, n15_skip _ (by omega) hv hb (s 36 1).toNat FU 0 (by omega) (by omega) (by omega) (by
      rcases hc with hc | ⟨q1, q2⟩
      · exact Or.inl hc
      · exact Or.inr ⟨q1, fun j j1 j2 e => q2 ⟨j, j1, j2, e⟩⟩)]
    exact st_bnd (unf2 s)
  constructor
  · intro hc
    rw [unf, n15_skip _ (by omega) hv h0 (s 36 0).toNat FU 0 (by omega) (by omega) (by omega) (by
      rcases hc with hc | ⟨q1, q2, q3⟩
      · exact Or.inl hc
      · exact Or.inr ⟨q1, fun j j1 j2 e => q2 ⟨j, j1, j2, e⟩⟩)]
    refine st_bnd (skip1 s h1 ?_)
    rcases hc with hc | ⟨q1, q2, q3⟩
    · exact Or.inl hc
    · exact Or.inr ⟨q1, q3⟩
  · intro ⟨h5, hu⟩
    by_cases c0 : usedN s 0 v
    · obtain ⟨j, j1, j2, j3⟩ := c0
      have e36 : up (up s 5 0 3) 6 0 (s 34 0) 36 = s 36 := by rw [up_row (by decide), up_row (by decide)]
      have e37 : up (up s 5 0 3) 6 0 (s 34 0) 37 = s 37 := by rw [up_row (by decide), up_row (by decide)]
      have e5 : up (up s 5 0 3) 6 0 (s 34 0) 5 0 = 3 := by rw [up_row (by decide), up_s]
      rw [unf, n15_hit _ (by omega) hv h0 h5 (s 36 0).toNat FU 0 (by omega) (by omega) (by omega) ⟨j, j1, j2, j3⟩]
      exact st_bnd (skip1 _ (by unfold nmB; rw [e36, e37]; exact h1) (Or.inl (by rw [e5]; omega)))
    · have c1 : usedN s 1 v := by
        rcases hu with h | h
        · exact absurd h c0
        · exact h
      obtain ⟨j, j1, j2, j3⟩ := c1
      rw [unf, n15_skip _ (by omega) hv h0 (s 36 0).toNat FU 0 (by omega) (by omega) (by omega) (Or.inr ⟨h5, fun j j1 j2 e => c0 ⟨j, j1, j2, e⟩⟩)]
      refine st_bnd ?_
      rw [unf1, show (0 : Int) + 1 = 1 from rfl, n15_hit _ (by omega) hv h1 h5 (s 36 1).toNat FU 0 (by omega) (by omega) (by omega) ⟨j, j1, j2, j3⟩]
      exact st_bnd (unf2 _)
theorem tkM_at (h : (tkM T n p).1 = 0) : (tkM T n p).2.1 = rn qB T n p ∧ (tkM T n p).2.2 = rn qL T n (rn qB T n p) ∧ (qL (bA T n (rn qB T n p)) = true ∧ pd T n (rn qB T n p) = false) ∧ rn qL T n (rn qB T n p) - rn qB T n p ≤ 6 := by
  revert h
  unfold tkM
  split
  · rename_i c
    split
    · intro h; exact absurd h (by dsimp only; omega)
    · split
      · intro _; exact ⟨rfl, rfl, c, by assumption⟩
      · intro h; exact absurd h (by dsimp only; omega)
  · intro h; exact absurd h (by dsimp only; omega)
theorem tkM_kd (hv : (tkM T n p).1 ≠ 0) : 1 ≤ (tkM T n p).1 ∧ (tkM T n p).1 ≤ 5 := by
  revert hv
  unfold tkM
  split
  · split
    · intro _; dsimp only; omega
    · split
      · intro h; exact absurd rfl h
      · intro _; dsimp only; omega
  · intro _; dsimp only; omega
/-- a name's word -/
theorem name_word (h : (tkM T n p).1 = 0) : (1 ≤ (wdl T (tkM T n p).2.1 (tkM T n p).2.2).length ∧ (wdl T (tkM T n p).2.1 (tkM T n p).2.2).length ≤ 6) ∧ (∀ c ∈ wdl T (tkM T n p).2.1 (tkM T n p).2.2, 97 ≤ c ∧ c ≤ 122) ∧ 0 ≤ nmV (wdl T (tkM T n p).2.1 (tkM T n p).2.2) ∧ nmV (wdl T (tkM T n p).2.1 (tkM T n p).2.2) < 400000000 := by
  obtain ⟨e1, e2, e3, e4⟩ := tkM_at h
  rw [e1, e2]
  have hlt := rn_lt (q := qL) (T := T) (n := n) qL_1 e3.1
  have hl : ∀ c ∈ wdl T (rn qB T n p) (rn qL T n (rn qB T n p)), 97 ≤ c ∧ c ≤ 122 := fun c hc => qL_t.mp (wdl_mem qL_1 hc)
  have hb := nmV_b _ _ rfl hl
  have hlen := wdl_len T (rn qB T n p) (rn qL T n (rn qB T n p))
  have hp : (27 : Int) ^ (wdl T (rn qB T n p) (rn qL T n (rn qB T n p))).length ≤ 27 ^ 6 := by
    rcases (show (wdl T (rn qB T n p) (rn qL T n (rn qB T n p))).length = 0 ∨ (wdl T (rn qB T n p) (rn qL T n (rn qB T n p))).length = 1 ∨ (wdl T (rn qB T n p) (rn qL T n (rn qB T n p))).length = 2 ∨ (wdl T (rn qB T n p) (rn qL T n (rn qB T n p))).length = 3 ∨ (wdl T (rn qB T n p) (rn qL T n (rn qB T n p))).length = 4 ∨ (wdl T (rn qB T n p) (rn qL T n (rn qB T n p))).length = 5 ∨ (wdl T (rn qB T n p) (rn qL T n (rn qB T n p))).length = 6 by omega) with h | h | h | h | h | h | h <;> rw [h] <;> decide
  exact ⟨by omega, hl, hb.1, by omega⟩
theorem newName_ev (h : mG T n s p) (h0 : nmB s 0) (h1 : nmB s 1) :
    ((tkM T n p).1 = 0 → (¬ (usedN s 0 (nmV (wdl T (tkM T n p).2.1 (tkM T n p).2.2)) ∨ usedN s 1 (nmV (wdl T (tkM T n p).2.1 (tkM T n p).2.2))) → ∃ s', m_newName s = some (nmV (wdl T (tkM T n p).2.1 (tkM T n p).2.2), s') ∧ only [2, 4, 34] s s' ∧ mG T n s' (tkM T n p).2.2) ∧ ((usedN s 0 (nmV (wdl T (tkM T n p).2.1 (tkM T n p).2.2)) ∨ usedN s 1 (nmV (wdl T (tkM T n p).2.1 (tkM T n p).2.2))) → ∃ v s', m_newName s = some (v, s') ∧ mB 3 (tkM T n p).2.1 s s')) ∧ ((tkM T n p).1 ≠ 0 → ∃ v s', m_newName s = some (v, s') ∧ mB (tkM T n p).1 (tkM T n p).2.1 s s') := by
  obtain ⟨hn1, hn2⟩ := m_name_ev h
  constructor
  · intro hk
    obtain ⟨s1, a1, a2, a3, a4⟩ := hn1 hk
    have hv := (name_word hk).2.2
    have e36 : s1 36 = s 36 := a2 36 (by decide)
    have e37 : s1 37 = s 37 := a2 37 (by decide)
    obtain ⟨L1, L2⟩ := newName_L7 (s := s1) hv (by unfold nmB; rw [e36, e37]; exact h0) (by unfold nmB; rw [e36, e37]; exact h1) (fun (x1_34 : Int) (s35 : MS) => some (x1_34, s35))
    have hu : ∀ kd v, usedN s1 kd v ↔ usedN s kd v := fun kd v => by unfold usedN; rw [e36, e37]
    have g5 : s1 5 0 = 0 := a3.2.2.2.2.1
    constructor
    · intro hno
      refine ⟨s1, ?_, a2, a3⟩
      unfold m_newName
      refine st_bind a1 (st_bnd (st_bnd ?_))
      exact L1 (Or.inr ⟨g5, fun q => hno (Or.inl ((hu _ _).mp q)), fun q => hno (Or.inr ((hu _ _).mp q))⟩)
    · intro hyes
      refine ⟨nmV (wdl T (tkM T n p).2.1 (tkM T n p).2.2), up (up s1 5 0 3) 6 0 (s1 34 0), ?_, ?_⟩
      · unfold m_newName
        refine st_bind a1 (st_bnd (st_bnd ?_))
        exact L2 ⟨g5, by
          rcases hyes with q | q
          · exact Or.inl ((hu _ _).mpr q)
          · exact Or.inr ((hu _ _).mpr q)⟩
      · rw [a4]
        exact mB.up a2 (by decide)
  · intro hk
    obtain ⟨s1, a1, a2⟩ := hn2 hk
    have hkd := tkM_kd hk
    have e36 : s1 36 = s 36 := a2.1 36 (by decide)
    have e37 : s1 37 = s 37 := a2.1 37 (by decide)
    obtain ⟨L1, -⟩ := newName_L7 (s := s1) (v := 0) (by omega) (by unfold nmB; rw [e36, e37]; exact h0) (by unfold nmB; rw [e36, e37]; exact h1) (fun (x1_34 : Int) (s35 : MS) => some (x1_34, s35))
    refine ⟨0, s1, ?_, a2⟩
    unfold m_newName
    exact st_bind a1 (st_bnd (st_bnd (L1 (Or.inl (by rw [a2.2.1]; exact hkd)))))
theorem number_bad {kd lo hi : Int} (h5 : s 5 0 = kd) (hk : 1 ≤ kd ∧ kd ≤ 5) : m_number lo hi s = some (0, s) := by
  unfold m_number
  exact st_f (by rw [h5, i32_id (by omega) (by omega)]; omega) rfl
theorem newName_bad {kd : Int} (h5 : s 5 0 = kd) (hk : 1 ≤ kd ∧ kd ≤ 5) (h0 : nmB s 0) (h1 : nmB s 1) : m_newName s = some (0, s) := by
  obtain ⟨L1, -⟩ := newName_L7 (s := s) (v := 0) (by omega) h0 h1 (fun (x1_34 : Int) (s35 : MS) => some (x1_34, s35))
  have hn : m_name s = some (0, s) := by
    unfold m_name
    exact st_f (by rw [h5, i32_id (by omega) (by omega)]; omega) rfl
  unfold m_newName
  exact st_bind hn (st_bnd (st_bnd (L1 (Or.inl (by rw [h5]; exact hk)))))
end
