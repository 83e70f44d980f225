set_option maxRecDepth 100000
/-! LAYER 2: all tones, in a row -/
section
variable {τ τ' τ'' : XS} {s s' : MS} {N c a b : Int} {es fs : List Int} {ws vs : List (List Int)}
/-- the tones tried so far -/
def TNs (t : XS) (m : MS) (M : Int) (i : Nat) (S : Int) : Prop := (0 ≤ S ∧ S < pT i) ∧ (∀ j : Int, 0 ≤ j → j < i → (m 67 j = 0 ∨ m 67 j = 1) ∧ hB S j = m 67 j) ∧ (0 ≤ m 68 0 ∧ m 68 0 ≤ i ∧ (m 68 0 = 0 ↔ S = 0)) ∧ ∀ j k : Int, 0 ≤ j → j < i → 0 ≤ k → k < M → t (166 + j) k = m 66 (21 * j + k) ∧ -1 ≤ m 66 (21 * j + k) ∧ m 66 (21 * j + k) ≤ 6
theorem lays_go (h : INV τ s N es fs ws vs) (h46 : s 46 0 = 1) {M : Int} (ha : 0 ≤ a ∧ a < ws.length) (hM : 0 ≤ M ∧ M ≤ 21 ∧ s 48 0 + M ≤ 999 ∧ (M = 21 ∨ s 48 0 + M = 999)) (kx : Int → XS → Option (Int × XS)) (K : MS → Option (Int × MS)) : ∀ (d i : Nat) (S : Int) (t : XS) (m : MS) (f g : Nat), i + d = 10 → d + 1 ≤ f → d + 1 ≤ g → TJ τ s N es fs ws vs t m → TNs t m M i S → ∃ S' t' m', x0_tones_L14 kx f a S i t = kx S' t' ∧ m_laysTones_L11 K g a i m = K m' ∧ TJ τ s N es fs ws vs t' m' ∧ TNs t' m' M 10 S' := by
  have hn := h.le
  have hd1 := h.2.2.2.2.1.1.1
  obtain ⟨⟨hR0, hR⟩, hR2⟩ := h.2.2.2.2.2.2.2.1
  intro d
  induction d with
  | zero =>
    intro i S t m f g hi hf hg hT hS
    have e : i = 10 := by omega
    rw [e] at hS ⊢
    cases f with
    | zero => omega
    | succ f =>
      cases g with
      | zero => omega
      | succ g =>
        refine ⟨S, t, m, ?_, ?_, hT, hS⟩
        · rw [x0_tones_L14]; exact st_t (by decide) rfl
        · rw [m_laysTones_L11]; exact st_t (by decide) rfl
  | succ d ih =>
    intro i S t m f g hi hf hg hT hS
    cases f with
    | zero => omega
    | succ f =>
      cases g with
      | zero => omega
      | succ g =>
        obtain ⟨hS1, hS2, hS3, hS4⟩ := hS
        have hp := ten_p ⟨i, by omega⟩
        dsimp only at hp
        obtain ⟨⟨o1, o2⟩, o3⟩ := ten_ior (i := i) (by omega) hS1
        have ii : i32 (i : Int) = i := i32_id (by omega) (by omega)
        have ia : i32 a = a := i32_id (by omega) (by omega)
        have i2 : i32 (8 + 10 * a + 2) = 8 + 10 * a + 2 := i32_id (by omega) (by omega)
        have oka : ok 6 a := by unfold ok; rw [ia]; omega
        have ok2 : ok 219 (8 + 10 * a + 2) := by unfold ok; rw [i2]; omega
        have oki : ok 10 (i : Int) := by unfold ok; rw [ii]; omega
        have ni : ¬ i32 10 ≤ i32 (i : Int) := by rw [ii, show i32 10 = 10 by decide]; omega
        obtain ⟨t0, a1, a2⟩ := hT.go h
        have a1' := copy99 h hT.1.1 hT.1.2
        obtain ⟨t0', p1, p2, p3⟩ := a1'
        have et0 : t0' = t0 := by rw [p1] at a1; cases a1; rfl
        rw [et0] at p3
        have hT2 := a2.tn h (o := a) (v1 := i) ha ⟨by omega, by omega⟩
        obtain ⟨c', t1, t2, m1, fit, b1, b2, ⟨⟨b3, b3'⟩, b4⟩, b5, b6, b7, b8, b9, b10, b11, b12⟩ := tone_b h h46 (T := i) (M := M) (a := a) ⟨by omega, by omega⟩ ha hM (fun (x3_65 : Int) (s66 : XS) => if i32 x3_65 = i32 (s66 0 16) then some (1, s66) else some (0, s66)) (fun (x1_43 : Int) (x2_44 : Int) (x3_45 : Int) (s46 : MS) => Option.bind (m_triesAnew s46) fun z47 => gd (ok 10 x2_44) <| gd (bz x3_45) <| bnd (up z47.2 67 (i32 x2_44) x3_45) fun s50 => bnd (fun (x1_51 : Int) (x2_52 : Int) (s53 : MS) => bnd (x2_52 + 1) fun x2_54 => m_laysTones_L11 K g x1_51 x2_54 s53) fun j55 => if i32 x3_45 = 0 then j55 x1_43 x2_44 s50 else bnd (up s50 68 0 ((s50 68 0) + 1)) fun s57 => j55 x1_43 x2_44 s57) M.toNat 0 _ _ FU FU 1 0 (by omega) (by omega) (by have := FU_ge; omega) (by have := FU_ge; omega) (Or.inr rfl) hT2 (by rw [up_i _ _ _ _ (by omega), hT.2.2 0 (by omega)]; omega) ⟨by omega, by have := (cntB_b (fun r => decide (s 65 (3 * r) < 0)) (s 64 0).toNat).1; exact this⟩ ⟨fun _ => (cntB_no _ (fun r r0 r1 => by have := (hR2 r r0 (by omega)).1.2; rw [decide_eq_true_eq]; omega)).symm, fun _ => rfl⟩ (fun j j0 j1 => by omega)
        obtain ⟨m2, d1, d2, d3⟩ := b4.anew
        have e016 : i32 (t1 0 16) = s 64 0 := by rw [b3 0 (by omega), hR0]; exact i32_id (by omega) (by omega)
        have xcb : x0_canBe a i t = some (fit, t1) := by
          unfold x0_canBe
          refine st_bind a1 (st_gd rfl (st_gd oka (st_be (e' := ux t0 102 a i) (by rw [ia]) (st_bnd (st_bnd (b1.trans ?_))))))
          by_cases q : c' = s 64 0
          · rw [b6.mpr q]
            exact st_t (by rw [e016, i32_id (by omega) (by omega)]; exact q) rfl
          · have f0 : fit = 0 := by
              rcases b5 with w | w
              · exact w
              · exact absurd (b6.mp w) q
            rw [f0]
            exact st_f (by rw [e016, i32_id (by omega) (by omega)]; exact q) rfl
        -- the reference goes on
        obtain ⟨m3, em3⟩ : ∃ m3, up m2 67 (i : Int) fit = m3 := ⟨_, rfl⟩
        have eu3 : up m2 67 (i32 (i : Int)) fit = m3 := by rw [ii]; exact em3
        have bzf : bz fit := by rcases b5 with w | w <;> rw [w] <;> decide
        have o23 : only [67] m2 m3 := by rw [← em3]; exact only.up (by decide)
        have kJ : ∀ {m4 : MS}, only [67, 68] m2 m4 → TJ τ s N es fs ws vs t1 m4 := fun {m4} o => by
          obtain ⟨-, ⟨q3, q4, q5⟩, q6⟩ := d2
          exact ⟨⟨b3, b3'⟩, ⟨q3.tr (o.mono (by decide)), by rw [o 60 (by decide)]; exact q4, fun j j0 j1 => by rw [o 49 (by decide)]; exact q5 j j0 j1⟩, fun j hj => by rw [o 48 (by decide)]; exact q6 j hj⟩
        have k66 : m3 66 = m1 66 := by rw [o23 66 (by decide), d3 66 (by decide)]
        have k67 : ∀ j : Int, m3 67 j = if j = i then fit else m 67 j := fun j => by
          rw [← em3]
          by_cases e : j = i
          · rw [if_pos e, e, up_s]
          · rw [if_neg e, up_i _ _ _ _ e, d3 67 (by decide), b11, up_row (by decide)]
        have k68 : m3 68 = m 68 := by rw [o23 68 (by decide), d3 68 (by decide), b12, up_row (by decide)]
        have gb : ∀ j k : Int, 0 ≤ j → j < ((i + 1 : Nat) : Int) → 0 ≤ k → k < M → t1 (166 + j) k = m3 66 (21 * j + k) ∧ -1 ≤ m3 66 (21 * j + k) ∧ m3 66 (21 * j + k) ≤ 6 := fun j k j0 j1 k0 k1 => by
          rw [k66]
          by_cases e : j = i
          · rw [e]; exact b9 k k0 k1
          · rw [b8 _ (by omega) (by omega) (by omega), ux_cell (by omega), p3.1 _ (by omega), b10 _ (by omega), up_row (by decide)]
            exact hS4 j k j0 (by omega) k0 k1
        rcases b5 with f0 | f1
        · obtain ⟨S', t', m', c1, c2, c3, c4⟩ := ih (i + 1) S t1 m3 f g (by omega) (by omega) (by omega) (kJ (o23.mono (by decide))) ⟨⟨hS1.1, by omega⟩, fun j j0 j1 => by
              rw [k67 j]
              by_cases e : j = i
              · rw [if_pos e, f0, e]
                exact ⟨Or.inl rfl, ten_hi (i := i) (by omega) hS1 (by omega) (by omega) (by omega)⟩
              · rw [if_neg e]; exact hS2 j j0 (by omega), by rw [k68]; omega, gb⟩
          refine ⟨S', t', m', ?_, ?_, c3, c4⟩
          · rw [x0_tones_L14]
            refine st_f ni (st_bind xcb (st_bnd (st_t (by rw [f0]; exact i32_0) (st_be o2 (st_bnd ?_)))))
            exact c1
          · rw [m_laysTones_L11]
            refine st_f ni (st_gd ok2 (st_be (e' := up m 48 (8 + 10 * a + 2) i) (by rw [i2]) (st_bnd (st_bnd (b2.trans (st_bind d1 (st_gd oki (st_gd bzf (st_be eu3 (st_bnd (st_t (by rw [f0]; exact i32_0) (st_bnd ?_))))))))))))
            exact c2
        · obtain ⟨m4, em4⟩ : ∃ m4, up m3 68 0 (m3 68 0 + 1) = m4 := ⟨_, rfl⟩
          have o34 : only [68] m3 m4 := by rw [← em4]; exact only.up (by decide)
          have e68 : m4 68 0 = m 68 0 + 1 := by rw [← em4, up_s, k68]
          obtain ⟨S', t', m', c1, c2, c3, c4⟩ := ih (i + 1) (ior S (ishl 1 i)) t1 m4 f g (by omega) (by omega) (by omega) (kJ ((o23.mono (by decide)).tr (o34.mono (by decide)))) ⟨⟨by omega, o1.2⟩, fun j j0 j1 => by
              rw [o34 67 (by decide), k67 j, o3 j j0 (by omega)]
              by_cases e : j = i
              · rw [if_pos e, if_pos e, f1]
                exact ⟨Or.inr rfl, rfl⟩
              · rw [if_neg e, if_neg e]; exact hS2 j j0 (by omega), by rw [e68]; omega, by rw [o34 66 (by decide)]; exact gb⟩
          refine ⟨S', t', m', ?_, ?_, c3, c4⟩
          · rw [x0_tones_L14]
            refine st_f ni (st_bind xcb (st_bnd (st_f (by rw [f1]; exact n10) (st_bnd (st_bnd ?_)))))
            exact c1
          · rw [m_laysTones_L11]
            refine st_f ni (st_gd ok2 (st_be (e' := up m 48 (8 + 10 * a + 2) i) (by rw [i2]) (st_bnd (st_bnd (b2.trans (st_bind d1 (st_gd oki (st_gd bzf (st_be eu3 (st_bnd (st_f (by rw [f1]; exact n10) (st_be em4 (st_bnd ?_)))))))))))))
            exact c2
end
