set_option maxRecDepth 100000
/-! LAYER 2: the reference writes a saying down -/
section
variable {T : Int → Int} {n p : Int} {τ : XS} {s s' : MS}
noncomputable def syPut (v a b c : Int) (s : MS) : Option (Int × MS) :=
  gd (ok 4 0) <|
  gd (ok 32 (s 36 (i32 0))) <|
  bnd (up s 37 (i32 (s 36 (i32 0))) v) fun s17 =>
  gd (ok 4 0) <|
  gd (ok 18 (3 * (s17 36 (i32 0)))) <|
  bnd (up s17 38 (i32 (3 * (s17 36 (i32 0)))) a) fun s20 =>
  gd (ok 4 0) <|
  gd (ok 18 ((3 * (s20 36 (i32 0))) + 1)) <|
  bnd (up s20 38 (i32 ((3 * (s20 36 (i32 0))) + 1)) b) fun s23 =>
  gd (ok 4 0) <|
  gd (ok 18 ((3 * (s23 36 (i32 0))) + 2)) <|
  bnd (up s23 38 (i32 ((3 * (s23 36 (i32 0))) + 2)) c) fun s26 =>
  gd (ok 4 0) <|
  gd (ok 4 0) <|
  bnd (up s26 36 (i32 0) ((s26 36 (i32 0)) + 1)) fun s29 =>
  some (0, s29)
theorem syPut_ev {v a b c L : Int} (hL : s 36 0 = L) (h0 : 0 ≤ L ∧ L ≤ 5) : ∃ s', syPut v a b c s = some (0, s') ∧ only [36, 37, 38] s s' ∧ stk s s' ∧ (s' 36 0 = L + 1 ∧ s' 36 1 = s 36 1) ∧ (s' 37 L = v ∧ ∀ j : Int, j ≠ L → s' 37 j = s 37 j) ∧ (s' 38 (3 * L) = a ∧ s' 38 (3 * L + 1) = b ∧ s' 38 (3 * L + 2) = c) ∧ ∀ j : Int, j < 3 * L → s' 38 j = s 38 j := by
  have o40 : ok 4 0 := by decide
  have z0 : i32 0 = 0 := by decide
  have i1 : i32 L = L := i32_id (by omega) (by omega)
  have i2 : i32 (3 * L) = 3 * L := i32_id (by omega) (by omega)
  have i3 : i32 (3 * L + 1) = 3 * L + 1 := i32_id (by omega) (by omega)
  have i4 : i32 (3 * L + 2) = 3 * L + 2 := i32_id (by omega) (by omega)
  have k1 : ok 32 L := by unfold ok; rw [i1]; omega
  have k2 : ok 18 (3 * L) := by unfold ok; rw [i2]; omega
  have k3 : ok 18 (3 * L + 1) := by unfold ok; rw [i3]; omega
  have k4 : ok 18 (3 * L + 2) := by unfold ok; rw [i4]; omega
  obtain ⟨s1, e1⟩ : ∃ s1, up s 37 L v = s1 := ⟨_, rfl⟩
  have f1 : s1 36 0 = L := by rw [← e1, up_row (by decide)]; exact hL
  obtain ⟨s2, e2⟩ : ∃ s2, up s1 38 (3 * L) a = s2 := ⟨_, rfl⟩
  have f2 : s2 36 0 = L := by rw [← e2, up_row (by decide)]; exact f1
  obtain ⟨s3, e3⟩ : ∃ s3, up s2 38 (3 * L + 1) b = s3 := ⟨_, rfl⟩
  have f3 : s3 36 0 = L := by rw [← e3, up_row (by decide)]; exact f2
  obtain ⟨s4, e4⟩ : ∃ s4, up s3 38 (3 * L + 2) c = s4 := ⟨_, rfl⟩
  have f4 : s4 36 0 = L := by rw [← e4, up_row (by decide)]; exact f3
  have st1 : stk s s1 := by rw [← e1]; exact stk.wr (Or.inr (Or.inr (Or.inl ⟨rfl, by omega⟩)))
  have st2 : stk s1 s4 := by rw [← e4, ← e3, ← e2]; exact stk.of (ks := [38]) (((only.up (by decide)).tr (only.up (by decide))).tr (only.up (by decide))) (by decide)
  have st4 : stk s4 (up s4 36 0 (L + 1)) := stk.wr (Or.inr (Or.inl ⟨rfl, by decide⟩))
  refine ⟨up s4 36 0 (L + 1), ?_, ?_, (st1.tr st2).tr st4, ⟨by rw [up_s], ?_⟩, ⟨?_, fun j hj => ?_⟩, ⟨?_, ?_, ?_⟩, fun j hj => ?_⟩
  · unfold syPut
    exact st_gd o40 (st_gd (by rw [z0, hL]; exact k1) (st_be (show up s 37 (i32 (s 36 (i32 0))) v = s1 by rw [z0, hL, i1]; exact e1) (st_gd o40 (st_gd (by rw [z0, f1]; exact k2) (st_be (show up s1 38 (i32 (3 * s1 36 (i32 0))) a = s2 by rw [z0, f1, i2]; exact e2) (st_gd o40 (st_gd (by rw [z0, f2]; exact k3) (st_be (show up s2 38 (i32 (3 * s2 36 (i32 0) + 1)) b = s3 by rw [z0, f2, i3]; exact e3) (st_gd o40 (st_gd (by rw [z0, f3]; exact k4) (st_be (show up s3 38 (i32 (3 * s3 36 (i32 0) + 2)) c = s4 by rw [z0, f3, i4]; exact e4) (st_gd o40 (st_gd o40 (st_be (show up s4 36 (i32 0) (s4 36 (i32 0) + 1) = up s4 36 0 (L + 1) by rw [z0, f4]) rfl))))))))))))))
  · rw [← e4, ← e3, ← e2, ← e1]
    exact ((((only.up (by decide)).tr (only.up (by decide))).tr (only.up (by decide))).tr (only.up (by decide))).tr (only.up (by decide))
  · rw [up_i _ _ _ _ (by decide), ← e4, up_row (by decide), ← e3, up_row (by decide), ← e2, up_row (by decide), ← e1, up_row (by decide)]
  · rw [up_row (by decide), ← e4, up_row (by decide), ← e3, up_row (by decide), ← e2, up_row (by decide), ← e1, up_s]
  · rw [up_row (by decide), ← e4, up_row (by decide), ← e3, up_row (by decide), ← e2, up_row (by decide), ← e1, up_i _ _ _ _ hj]
  · rw [up_row (by decide), ← e4, up_i _ _ _ _ (by omega), ← e3, up_i _ _ _ _ (by omega), ← e2, up_s]
  · rw [up_row (by decide), ← e4, up_i _ _ _ _ (by omega), ← e3, up_s]
  · rw [up_row (by decide), ← e4, up_s]
  · rw [up_row (by decide), ← e4, up_i _ _ _ _ (by omega), ← e3, up_i _ _ _ _ (by omega), ← e2, up_i _ _ _ _ (by omega), ← e1, up_row (by decide)]
end
