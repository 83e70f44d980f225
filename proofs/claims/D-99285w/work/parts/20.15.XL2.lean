set_option maxRecDepth 100000
/-! LAYER 2: the system's builders -/
section
variable {τ τ' : XS}
theorem copy3_ev (ha : al τ) {a nw : Int} (h0 : 1514 ≤ a) (ht : τ a (-1) = 102) {cap : Int} (hl : τ a (-2) = cap) (hc : 2 ≤ cap ∧ cap < 5000) (hn : cap < nw ∧ nw < 20000) (hes : ∀ j : Int, 0 ≤ j → j < cap → 0 ≤ τ a j ∧ τ a j < 128) :
    ∃ τ', j13_copyOf_3 true a nw τ = some (τ (-1) 0, τ') ∧ al τ' ∧ τ' (τ (-1) 0) (-1) = 102 ∧ τ' (τ (-1) 0) (-2) = nw ∧ (∀ j : Int, 0 ≤ j → j < cap → τ' (τ (-1) 0) j = τ a j) ∧ (∀ c, c ≠ -1 → c ≠ τ (-1) 0 → τ' c = τ c) ∧ τ' (-1) 0 = τ (-1) 0 + 1 ∧ τ' (-1) 1 = τ (-1) 1 + nw ∧ ∀ i, 2 ≤ i → τ' (-1) i = τ (-1) i := by
  have hN := ha.1
  have hS := ha.2.1
  have haN := tag_lt ha ht (by decide)
  obtain ⟨s7, n1, n2, n3, n4, n5, n6, n7, n8, n9⟩ := nwx_all ha 102 nw (sl := nw) (fun _ => 0) (by omega)
  have e7 : s7 a = τ a := n9 a (by omega) (by omega)
  have g0 := tgf (τ := τ) (t := 102) (new_fre h0) ht
  have g1 := tgf (τ := s7) (t := 102) (new_fre h0) (by rw [e7]; exact ht)
  have g2 := tgf (τ := s7) (t := 102) (new_fre hN) n4
  have l0 : ln true τ a = cap := by rw [ln_fre (new_fre h0), hl]
  have l1 : ln true s7 a = cap := by rw [ln_fre (new_fre h0), e7, hl]
  have l2 : ln true s7 (τ (-1) 0) = nw := by rw [ln_fre (new_fre hN), n5]
  have hmin : j12_min true cap nw s7 = some (cap, s7) := by
    unfold j12_min
    by_cases q : nw < cap
    · omega
    · simp (disch := omega) only [gd_t, gd_T, gd_ok, not_false_eq_true, eq_self, bnd_r, bind_s, ite_t, ite_n, ite_T, ite_F, i32_id]
  have hall : ∀ i : Nat, i < cap.toNat → i8 (s7 a (0 + (i : Int))) = i32 (s7 a (0 + (i : Int))) := by
    intro i hi
    rw [e7, Int.zero_add]
    obtain ⟨q1, q2⟩ := hes i (by omega) (by omega)
    rw [i32_id (by omega) (by omega)]
    unfold i8
    rw [Int.bmod_eq_of_le (by omega) (by omega)]
  have e16 : ∀ c, c ≠ τ (-1) 0 → cpx s7 a 0 (τ (-1) 0) 0 cap c = s7 c := fun c hc => by
    funext i
    unfold cpx
    rw [if_neg (by intro h; exact hc h.1)]
  have e17 : ∀ j, ¬ (0 ≤ j ∧ j < cap) → cpx s7 a 0 (τ (-1) 0) 0 cap (τ (-1) 0) j = s7 (τ (-1) 0) j := fun j hj => by
    unfold cpx
    rw [if_neg (by omega)]
  refine ⟨cpx s7 a 0 (τ (-1) 0) 0 cap, ?_, ?_, ?_, ?_, ?_, ?_, ?_, ?_, ?_⟩
  · unfold j13_copyOf_3
    simp (disch := omega) only [gd_t, gd_T, gd_ok, not_false_eq_true, eq_self, bnd_r, bind_s, ite_t, ite_n, ite_T, ite_F, i32_id, g0, l0, n1, g1, l1, hmin, g2, l2, gd_t hall]
  · obtain ⟨b1, b2, b3⟩ := n2
    refine ⟨by rw [e16 _ (by omega)]; exact b1, by rw [e16 _ (by omega)]; exact b2, fun c hc => ?_⟩
    rw [e16 _ (by omega), n7] at hc
    rw [e16 c (by omega)]
    exact b3 c (by rw [n7]; exact hc)
  · rw [e17 _ (by omega)]; exact n4
  · rw [e17 _ (by omega)]; exact n5
  · intro j j0 j1
    unfold cpx
    rw [if_pos ⟨rfl, by omega, by omega⟩, e7]
    congr 1
    omega
  · intro c h1 h2
    rw [e16 c h2]; exact n9 c h2 h1
  · rw [e16 _ (by omega)]; exact n7
  · rw [e16 _ (by omega)]; exact n8
  · intro i hi
    rw [e16 _ (by omega), ← n1]; exact nwx_K ha hi
theorem newLen2_ev {c d : Int} (hc : 2 ≤ c ∧ c < 5000) (hd : d = 1) : j10_newLength true c d (c + 2) τ = some (2 * c + 2, τ) := by
  subst hd
  unfold j10_newLength j12_max
  simp (disch := omega) only [gd_t, gd_T, gd_ok, not_false_eq_true, eq_self, bnd_r, bind_s, ite_t, ite_n, ite_T, ite_F, i32_id]
  congr 2
  omega
/-- one more sign in a builder -/
theorem append_ev (ha : al τ) {S : Int → Prop} (hS : ∀ y, S y → 1514 ≤ y) {sc ch : Int} {cs : List Int} (hl : sbdX τ S sc cs) (hcap : 16 ≤ τ (τ sc 0) (-2) ∧ τ (τ sc 0) (-2) ≤ 2 * cs.length + 16) (hlen : cs.length ≤ 1700) (hch : 0 ≤ ch ∧ ch < 128) :
    ∃ τ', j15_append true sc ch τ = some (sc, τ') ∧ al τ' ∧ (∀ y, y ≠ -1 → y ≠ sc → y ≠ τ' sc 0 → τ' y = τ y) ∧ ((τ' sc 0 = τ sc 0 ∧ τ' (-1) = τ (-1)) ∨ (τ' sc 0 = τ (-1) 0 ∧ τ' (-1) 0 = τ (-1) 0 + 1)) ∧ (∀ S' : Int → Prop, (∀ y, S y → S' y) → S' (τ' sc 0) → sbdX τ' S' sc (cs ++ [ch])) ∧ (16 ≤ τ' (τ' sc 0) (-2) ∧ τ' (τ' sc 0) (-2) ≤ 2 * (cs.length + 1) + 16) ∧ (τ (-1) 0 ≤ τ' (-1) 0 ∧ τ' (-1) 0 ≤ τ (-1) 0 + 1) ∧ (τ (-1) 1 ≤ τ' (-1) 1 ∧ τ' (-1) 1 ≤ τ (-1) 1 + 2 * (τ' (τ' sc 0) (-2) - τ (τ sc 0) (-2))) ∧ ∀ i, 2 ≤ i → τ' (-1) i = τ (-1) i := by
  have hN := ha.1
  have hSl := ha.2.1
  obtain ⟨⟨a1, a2⟩, a3, ⟨b1, b2⟩, h3, h4, h5, h6⟩ := hl
  have a1' := hS _ a1
  have b1' := hS _ b1
  have ne : τ sc 0 ≠ sc := fun e => by rw [e] at b2; omega
  have hlN := tag_lt ha a2 (by decide)
  have hbN := tag_lt ha b2 (by decide)
  have g0 := tgf (τ := τ) (t := 23) (new_fre a1') a2
  have g2 := tgf (τ := τ) (t := 102) (new_fre b1') b2
  have kl : ln true τ (τ sc 0) = τ (τ sc 0) (-2) := ln_fre (new_fre b1')
  have nb := fre_nf (new_fre b1')
  have z2 : ishl 2 0 = 2 := by decide
  have hi8 : i8 (i8 ch) = ch := by have e := Int.bmod_eq_of_le (n := ch) (m := 256) (by omega) (by omega); unfold i8; rw [e, e]
  generalize hcp : τ (τ sc 0) (-2) = cap at *
  generalize hln : (cs.length : Int) = len at *
  have hlen' : len ≤ 1700 := by omega
  have h0 : 0 ≤ len := by omega
  by_cases hg : len = cap
  · obtain ⟨s13, c1, c2, c3, c4, c5, c6, c7, c8, c9⟩ := copy3_ev ha (a := τ sc 0) (nw := 2 * cap + 2) b1' b2 (cap := cap) hcp (by omega) (by omega) (fun j j0 j1 => by
      have hj : j.toNat < cs.length := by omega
      obtain ⟨q1, q2⟩ := h6 j.toNat _ (List.getElem?_eq_getElem hj)
      rw [Int.toNat_of_nonneg j0] at q1
      rw [q1]
      exact q2)
    have m1 : s13 sc = τ sc := c6 sc (by omega) (by omega)
    have t13 := tgf (τ := s13) (t := 23) (new_fre a1') (by rw [m1]; exact a2)
    have nN := fre_nf (new_fre hN)
    obtain ⟨s17, e17⟩ : ∃ s, ux s13 sc 0 (τ (-1) 0) = s := ⟨_, rfl⟩
    have p1 : ∀ c, c ≠ sc → s17 c = s13 c := fun c hc => by rw [← e17]; exact ux_cell hc
    have p2 : ∀ i, i ≠ 0 → s17 sc i = τ sc i := fun i hi => by rw [← e17, ux_i _ _ _ _ hi, m1]
    have p3 : s17 sc 0 = τ (-1) 0 := by rw [← e17, ux_s]
    have t17 := tgf (τ := s17) (t := 23) (new_fre a1') (by rw [p2 _ (by decide)]; exact a2)
    have p4 : s17 sc 3 = len := by rw [p2 _ (by decide)]; exact h3
    have p5 : s17 sc 1 = 0 := by rw [p2 _ (by decide)]; exact a3
    obtain ⟨s32, e32⟩ : ∃ s, ux s17 sc 3 (len + 1) = s := ⟨_, rfl⟩
    have r0 : s32 (τ (-1) 0) = s13 (τ (-1) 0) := by rw [← e32, ux_cell (by omega), p1 _ (by omega)]
    have t32 := tgf (τ := s32) (t := 102) (new_fre hN) (by rw [r0]; exact c3)
    have l32 : ln true s32 (τ (-1) 0) = 2 * cap + 2 := by rw [ln_fre (new_fre hN), r0]; exact c4
    have r1 : ux s32 (τ (-1) 0) len ch sc 0 = τ (-1) 0 := by rw [ux_cell (by omega), ← e32, ux_i _ _ _ _ (by decide)]; exact p3
    have al17 : al s17 := by rw [← e17]; exact c2.u (by omega) (by omega)
    have al32 : al s32 := by rw [← e32]; exact al17.u (by omega) (by omega)
    refine ⟨ux s32 (τ (-1) 0) len ch, ?_, al32.u (by omega) (by omega), ?_, ?_, ?_, ?_, ?_, ?_, ?_⟩
    · unfold j15_append j14_append j14_ensureCapacityInternal j14_newCapacity j14_isLatin1 j9_canEncode
      simp (disch := omega) only [gd_t, gd_T, gd_ok, not_false_eq_true, eq_self, bnd_r, bind_s, ite_t, ite_n, ite_T, ite_F, i32_id, g0, nb, g2, a3, ishr_0, ishl_0, kl, h3, z2, newLen2_ev (c := cap) (d := len + 1 - cap) (τ := τ) (by omega) (by omega), c1, t13, nN, e17, t17, p5, p3, p4, e32, t32, l32, hi8]
    · intro y y1 y2 y3
      rw [r1] at y3
      rw [ux_cell y3, ← e32, ux_cell y2, p1 y y2, c6 y y1 y3]
    · right
      exact ⟨r1, by rw [ux_cell (by omega), ← e32, ux_cell (by omega), p1 _ (by omega)]; exact c7⟩
    · intro S' s1 s3
      rw [r1] at s3
      refine ⟨⟨s1 _ a1, by rw [ux_cell (by omega), ← e32, ux_i _ _ _ _ (by decide), p2 _ (by decide)]; exact a2⟩, by rw [ux_cell (by omega), ← e32, ux_i _ _ _ _ (by decide)]; exact p5, ?_⟩
      rw [r1]
      refine ⟨⟨s3, by rw [ux_i _ _ _ _ (by omega), r0]; exact c3⟩, by rw [ux_cell (by omega), ← e32, ux_s, List.length_append, List.length_singleton]; omega, ?_, ?_, fun i y hi => ?_⟩
      · rw [ux_i _ _ _ _ (by omega), r0, c4, List.length_append, List.length_singleton]; omega
      · rw [ux_i _ _ _ _ (by omega), r0, c4]; omega
      · by_cases q : i < cs.length
        · rw [List.getElem?_append_left q] at hi
          obtain ⟨q1, q2⟩ := h6 i y hi
          refine ⟨?_, q2⟩
          rw [ux_i _ _ _ _ (by omega), r0, c5 i (by omega) (by omega)]
          exact q1
        · rw [List.getElem?_append_right (by omega)] at hi
          have hi0 : i = cs.length := by
            have := (List.getElem?_eq_some_iff.mp hi).1
            simp at this
            omega
          rw [hi0] at hi ⊢
          simp at hi
          subst hi
          refine ⟨?_, hch⟩
          rw [hln, ux_s]
    · rw [r1, ux_i _ _ _ _ (by omega), r0, c4]
      omega
    · rw [ux_cell (by omega), ← e32, ux_cell (by omega), p1 _ (by omega), c7]
      omega
    · have w1 : ux s32 (τ (-1) 0) len ch (τ (-1) 0) (-2) = 2 * cap + 2 := by rw [ux_i _ _ _ _ (by omega), r0, c4]
      have w2 : ux s32 (τ (-1) 0) len ch (-1) 1 = τ (-1) 1 + (2 * cap + 2) := by rw [ux_cell (by omega), ← e32, ux_cell (by omega), p1 _ (by omega), c8]
      rw [r1, w1, w2]
      omega
    · intro i hi
      rw [ux_cell (by omega), ← e32, ux_cell (by omega), p1 _ (by omega), c9 i hi]
  · have hlt : len < cap := by omega
    obtain ⟨s32, e32⟩ : ∃ s, ux τ sc 3 (len + 1) = s := ⟨_, rfl⟩
    have r0 : s32 (τ sc 0) = τ (τ sc 0) := by rw [← e32, ux_cell ne]
    have t32 := tgf (τ := s32) (t := 102) (new_fre b1') (by rw [r0]; exact b2)
    have l32 : ln true s32 (τ sc 0) = cap := by rw [ln_fre (new_fre b1'), r0]; exact hcp
    have r1 : ux s32 (τ sc 0) len ch sc 0 = τ sc 0 := by rw [ux_cell (fun h => ne h.symm), ← e32, ux_i _ _ _ _ (by decide)]
    have al32 : al s32 := by rw [← e32]; exact ha.u (by omega) (by omega)
    refine ⟨ux s32 (τ sc 0) len ch, ?_, al32.u (by omega) (by omega), ?_, ?_, ?_, ?_, ?_, ?_, ?_⟩
    · unfold j15_append j14_append j14_ensureCapacityInternal j14_isLatin1 j9_canEncode
      simp (disch := omega) only [gd_t, gd_T, gd_ok, not_false_eq_true, eq_self, bnd_r, bind_s, ite_t, ite_n, ite_T, ite_F, i32_id, g0, nb, g2, a3, ishr_0, kl, h3, e32, t32, l32, hi8]
    · intro y y1 y2 y3
      rw [r1] at y3
      rw [ux_cell y3, ← e32, ux_cell y2]
    · left
      exact ⟨r1, by rw [ux_cell (by omega), ← e32, ux_cell (by omega)]⟩
    · intro S' s1 s3
      refine ⟨⟨s1 _ a1, by rw [ux_cell (fun h => ne h.symm), ← e32, ux_i _ _ _ _ (by decide)]; exact a2⟩, by rw [ux_cell (fun h => ne h.symm), ← e32, ux_i _ _ _ _ (by decide)]; exact a3, ?_⟩
      rw [r1]
      refine ⟨⟨s1 _ b1, by rw [ux_i _ _ _ _ (by omega), r0]; exact b2⟩, by rw [ux_cell (fun h => ne h.symm), ← e32, ux_s, List.length_append, List.length_singleton]; omega, ?_, ?_, fun i y hi => ?_⟩
      · rw [ux_i _ _ _ _ (by omega), r0, hcp, List.length_append, List.length_singleton]; omega
      · rw [ux_i _ _ _ _ (by omega), r0, hcp]; omega
      · by_cases q : i < cs.length
        · rw [List.getElem?_append_left q] at hi
          obtain ⟨q1, q2⟩ := h6 i y hi
          refine ⟨?_, q2⟩
          rw [ux_i _ _ _ _ (by omega), r0]
          exact q1
        · rw [List.getElem?_append_right (by omega)] at hi
          have hi0 : i = cs.length := by
            have := (List.getElem?_eq_some_iff.mp hi).1
            simp at this
            omega
          rw [hi0] at hi ⊢
          simp at hi
          subst hi
          refine ⟨?_, hch⟩
          rw [hln, ux_s]
    · rw [r1, ux_i _ _ _ _ (by omega), r0, hcp]
      omega
    · rw [ux_cell (by omega), ← e32, ux_cell (by omega)]
      omega
    · have w1 : ux s32 (τ sc 0) len ch (τ sc 0) (-2) = cap := by rw [ux_i _ _ _ _ (by omega), r0, hcp]
      have w2 : ux s32 (τ sc 0) len ch (-1) 1 = τ (-1) 1 := by rw [ux_cell (by omega), ← e32, ux_cell (by omega)]
      rw [r1, w1, w2]
      omega
    · intro i hi
      rw [ux_cell (by omega), ← e32, ux_cell (by omega)]
end
