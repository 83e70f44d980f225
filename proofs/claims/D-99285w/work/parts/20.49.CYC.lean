set_option maxRecDepth 100000
/-! LAYER 2: the reference writes a verb down; a new saying of the system -/
section
variable {T : Int → Int} {n p : Int} {τb τ τ' : XS} {s s' s0 : MS} {c : Int}
theorem st_be {β α : Type} {e e' : β} {f : β → Option α} {x : Option α} (h0 : e = e') (h : f e' = x) : bnd e f = x := by rw [h0]; exact h
noncomputable def vbPut (v a b : Int) (s : MS) : Option (Int × MS) :=
  gd (ok 4 1) <|
  gd (ok 32 (8 + (s 36 (i32 1)))) <|
  bnd (up s 37 (i32 (8 + (s 36 (i32 1)))) v) fun s15 =>
  gd (ok 4 1) <|
  gd (ok 28 (2 * (s15 36 (i32 1)))) <|
  bnd (up s15 39 (i32 (2 * (s15 36 (i32 1)))) a) fun s18 =>
  gd (ok 4 1) <|
  gd (ok 28 ((2 * (s18 36 (i32 1))) + 1)) <|
  bnd (up s18 39 (i32 ((2 * (s18 36 (i32 1))) + 1)) b) fun s21 =>
  gd (ok 4 1) <|
  gd (ok 4 1) <|
  bnd (up s21 36 (i32 1) ((s21 36 (i32 1)) + 1)) fun s24 =>
  some (0, s24)
theorem vbPut_ev {v a b L : Int} (hL : s 36 1 = L) (h0 : 0 ≤ L ∧ L ≤ 6) : ∃ s', vbPut v a b s = some (0, s') ∧ only [36, 37, 39] s s' ∧ stk s s' ∧ (s' 36 1 = L + 1 ∧ s' 36 0 = s 36 0) ∧ (s' 37 (8 + L) = v ∧ ∀ j : Int, j ≠ 8 + L → s' 37 j = s 37 j) ∧ (s' 39 (2 * L) = a ∧ s' 39 (2 * L + 1) = b) ∧ ∀ j : Int, j < 2 * L → s' 39 j = s 39 j := by
  have o41 : ok 4 1 := by decide
  have z1 : i32 1 = 1 := by decide
  have i1 : i32 (8 + L) = 8 + L := i32_id (by omega) (by omega)
  have i2 : i32 (2 * L) = 2 * L := i32_id (by omega) (by omega)
  have i3 : i32 (2 * L + 1) = 2 * L + 1 := i32_id (by omega) (by omega)
  have k1 : ok 32 (8 + L) := by unfold ok; rw [i1]; omega
  have k2 : ok 28 (2 * L) := by unfold ok; rw [i2]; omega
  have k3 : ok 28 (2 * L + 1) := by unfold ok; rw [i3]; omega
  obtain ⟨s1, e1⟩ : ∃ s1, up s 37 (8 + L) v = s1 := ⟨_, rfl⟩
  have f1 : s1 36 1 = L := by rw [← e1, up_row (by decide)]; exact hL
  obtain ⟨s2, e2⟩ : ∃ s2, up s1 39 (2 * L) a = s2 := ⟨_, rfl⟩
  have f2 : s2 36 1 = L := by rw [← e2, up_row (by decide)]; exact f1
  obtain ⟨s3, e3⟩ : ∃ s3, up s2 39 (2 * L + 1) b = s3 := ⟨_, rfl⟩
  have f3 : s3 36 1 = L := by rw [← e3, up_row (by decide)]; exact f2
  have st1 : stk s s1 := by rw [← e1]; exact stk.wr (Or.inr (Or.inr (Or.inl ⟨rfl, by omega⟩)))
  have st2 : stk s1 s2 := by rw [← e2]; exact stk.wr (Or.inr (Or.inr (Or.inr (Or.inl ⟨rfl, by omega⟩))))
  have st3 : stk s2 s3 := by rw [← e3]; exact stk.wr (Or.inr (Or.inr (Or.inr (Or.inl ⟨rfl, by omega⟩))))
  have st4 : stk s3 (up s3 36 1 (L + 1)) := stk.wr (Or.inr (Or.inl ⟨rfl, by decide⟩))
  refine ⟨up s3 36 1 (L + 1), ?_, ?_, ((st1.tr st2).tr st3).tr st4, ⟨by rw [up_s], ?_⟩, ⟨?_, fun j hj => ?_⟩, ⟨?_, ?_⟩, fun j hj => ?_⟩
  · unfold vbPut
    exact st_gd o41 (st_gd (by rw [z1, hL]; exact k1) (st_be (show up s 37 (i32 (8 + s 36 (i32 1))) v = s1 by rw [z1, hL, i1]; exact e1) (st_gd o41 (st_gd (by rw [z1, f1]; exact k2) (st_be (show up s1 39 (i32 (2 * s1 36 (i32 1))) a = s2 by rw [z1, f1, i2]; exact e2) (st_gd o41 (st_gd (by rw [z1, f2]; exact k3) (st_be (show up s2 39 (i32 (2 * s2 36 (i32 1) + 1)) b = s3 by rw [z1, f2, i3]; exact e3) (st_gd o41 (st_gd o41 (st_be (show up s3 36 (i32 1) (s3 36 (i32 1) + 1) = up s3 36 1 (L + 1) by rw [z1, f3]) rfl)))))))))))
  · rw [← e3, ← e2, ← e1]
    exact (((only.up (by decide)).tr (only.up (by decide))).tr (only.up (by decide))).tr (only.up (by decide))
  · rw [up_i _ _ _ _ (by decide), ← e3, up_row (by decide), ← e2, up_row (by decide), ← e1, up_row (by decide)]
  · rw [up_row (by decide), ← e3, up_row (by decide), ← e2, up_row (by decide), ← e1, up_s]
  · rw [up_row (by decide), ← e3, up_row (by decide), ← e2, up_row (by decide), ← e1, up_i _ _ _ _ hj]
  · rw [up_row (by decide), ← e3, up_i _ _ _ _ (by omega), ← e2, up_s]
  · rw [up_row (by decide), ← e3, up_s]
  · rw [up_row (by decide), ← e3, up_i _ _ _ _ (by omega), ← e2, up_i _ _ _ _ (by omega), ← e1, up_row (by decide)]
theorem x10_ev {x a v1 v2 v3 : Int} (hx : 1514 ≤ x ∧ τ x (-1) = 9) (ha : ¬ a = -1) : x10_init true x a v1 v2 v3 τ = some (0, ux (ux (ux (ux τ x 0 a) x 1 v1) x 2 v2) x 3 v3) := by
  have g0 : tg true τ x = 9 := tgf (t := 9) (new_fre hx.1) hx.2
  have g1 : tg true (ux τ x 0 a) x = 9 := tgf (t := 9) (new_fre hx.1) (by rw [ux_i _ _ _ _ (by decide)]; exact hx.2)
  have g2 : tg true (ux (ux τ x 0 a) x 1 v1) x = 9 := tgf (t := 9) (new_fre hx.1) (by rw [ux_i _ _ _ _ (by decide), ux_i _ _ _ _ (by decide)]; exact hx.2)
  have g3 : tg true (ux (ux (ux τ x 0 a) x 1 v1) x 2 v2) x = 9 := tgf (t := 9) (new_fre hx.1) (by rw [ux_i _ _ _ _ (by decide), ux_i _ _ _ _ (by decide), ux_i _ _ _ _ (by decide)]; exact hx.2)
  have bd : 0 ≤ x ∧ ¬ (1438 ≤ x ∧ x < 1514) := by omega
  have n9 : x9_init true x a τ = some (0, ux τ x 0 a) := by
    unfold x9_init
    exact st_gd (by rw [g0]; exact isNa_9) (st_gd bd (st_gd ha (st_bnd rfl)))
  unfold x10_init
  exact st_bind n9 (st_gd g1 (st_gd bd (st_bnd (st_gd g2 (st_gd bd (st_bnd (st_gd g3 (st_gd bd (st_bnd rfl)))))))))
end
