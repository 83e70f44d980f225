set_option maxRecDepth 100000
/-! LAYER 2: the system's lists and builders grow -/
theorem half_ev {a : Int} (h : 0 ≤ a ∧ a < 4096) : ishr a 1 = a / 2 := by
  have : ∀ a : Fin 4096, ishr (a.val : Int) 1 = (a.val : Int) / 2 := by decide +kernel
  have := this ⟨a.toNat, by omega⟩
  simp only at this
  rw [Int.toNat_of_nonneg h.1] at this
  exact this
theorem ishl_0 (a : Int) : ishl a 0 = i32 a := by
  unfold ishl
  rw [show (Int32.ofInt 0 &&& 31) = 0 by decide, Int32.shiftLeft_zero, toInt_ofInt32]
/-- a new capacity -/
def grw (c : Int) : Int := if 1 < c / 2 then c + c / 2 else c + 1
theorem grw_b {c : Int} (h : 2 ≤ c) : c + 1 ≤ grw c ∧ grw c ≤ 2 * c ∧ 4 * c ≤ 3 * grw c := by
  unfold grw
  split <;> omega
theorem newLen_ev {τ : XS} {c d : Int} (hc : 2 ≤ c ∧ c < 4096) (hd : d = 1) : j10_newLength true c d (c / 2) τ = some (grw c, τ) := by
  subst hd
  unfold j10_newLength j12_max grw
  by_cases q : 1 < c / 2
  · rw [if_pos q]; simp (disch := omega) only [gd_t, gd_T, gd_ok, not_false_eq_true, eq_self, bnd_r, bind_s, ite_t, ite_n, ite_T, ite_F, i32_id]
  · rw [if_neg q]; simp (disch := omega) only [gd_t, gd_T, gd_ok, not_false_eq_true, eq_self, bnd_r, bind_s, ite_t, ite_n, ite_T, ite_F, i32_id]
section
variable {τ τ' : XS}
/-- the array at arr, copied to the new cell N -/
theorem copy_ev (ha : al τ) {a nw : Int} (h0 : 1514 ≤ a) (ht : τ a (-1) = 110) {cap : Int} (hl : τ a (-2) = cap) (hc : 2 ≤ cap ∧ cap < 4096) (hn : cap ≤ nw ∧ nw < 10000) (hes : ∀ j : Int, 0 ≤ j → j < cap → 1514 ≤ τ a j ∧ 0 < τ (τ a j) (-1) ∧ τ (τ a j) (-1) < 100) :
    ∃ τ', j13_copyOf true a nw τ = some (τ (-1) 0, τ') ∧ al τ' ∧ τ' (τ (-1) 0) (-1) = 110 ∧ τ' (τ (-1) 0) (-2) = nw ∧ (∀ j : Int, 0 ≤ j → j < cap → τ' (τ (-1) 0) j = τ a j) ∧ (∀ c, c ≠ -1 → c ≠ τ (-1) 0 → τ' c = τ c) ∧ τ' (-1) 0 = τ (-1) 0 + 1 ∧ τ' (-1) 1 = τ (-1) 1 + nw ∧ ∀ i, 2 ≤ i → τ' (-1) i = τ (-1) i := by
  have hN := ha.1
  have hS := ha.2.1
  have haN := tag_lt ha ht (by decide)
  obtain ⟨s7, n1, n2, n3, n4, n5, n6, n7, n8, n9⟩ := nwx_all ha 110 nw (sl := nw) (fun _ => -1) (by omega)
  have e7 : s7 a = τ a := n9 a (by omega) (by omega)
  have g0 := tgf (τ := τ) (t := 110) (new_fre h0) ht
  have g1 := tgf (τ := s7) (t := 110) (new_fre h0) (by rw [e7]; exact ht)
  have g2 := tgf (τ := s7) (t := 110) (new_fre hN) n4
  have l1 : ln true s7 a = cap := by rw [ln_fre (new_fre h0), e7, hl]
  have l2 : ln true s7 (τ (-1) 0) = nw := by rw [ln_fre (new_fre hN), n5]
  have hmin : j12_min true cap nw s7 = some (cap, s7) := by
    unfold j12_min
    by_cases q : nw < cap
    · omega
    · simp (disch := omega) only [gd_t, gd_T, gd_ok, not_false_eq_true, eq_self, bnd_r, bind_s, ite_t, ite_n, ite_T, ite_F, i32_id]
  have hall : ∀ i : Nat, i < cap.toNat → (s7 a (0 + (i : Int))) = -1 ∨ (0 < tg true s7 (s7 a (0 + (i : Int))) ∧ tg true s7 (s7 a (0 + (i : Int))) < 100) := by
    intro i hi
    right
    rw [e7, Int.zero_add]
    obtain ⟨q1, q2, q3⟩ := hes i (by omega) (by omega)
    have q4 := tag_lt ha (c := τ a i) rfl (by omega)
    have q5 : s7 (τ a i) = τ (τ a i) := n9 _ (by omega) (by omega)
    rw [tg_fre (new_fre q1), q5]
    omega
  have e16 : ∀ c, c ≠ τ (-1) 0 → cpx s7 a 0 (τ (-1) 0) 0 cap c = s7 c := fun c hc => by
    funext i
    unfold cpx
    rw [if_neg (by intro h; exact hc h.1)]
  have e17 : ∀ j, ¬ (0 ≤ j ∧ j < cap) → cpx s7 a 0 (τ (-1) 0) 0 cap (τ (-1) 0) j = s7 (τ (-1) 0) j := fun j hj => by
    unfold cpx
    rw [if_neg (by omega)]
  refine ⟨cpx s7 a 0 (τ (-1) 0) 0 cap, ?_, ?_, ?_, ?_, ?_, ?_, ?_, ?_, ?_⟩
  · unfold j13_copyOf j13_copyOf_2
    simp (disch := omega) only [gd_t, gd_T, gd_ok, not_false_eq_true, eq_self, bnd_r, bind_s, ite_t, ite_n, ite_T, ite_F, i32_id, g0, n1, g1, l1, hmin, g2, l2, gd_t hall]
  · obtain ⟨b1, b2, b3⟩ := n2
    refine ⟨by rw [e16 _ (by omega)]; exact b1, by rw [e16 _ (by omega)]; exact b2, fun c hc => ?_⟩
    rw [e16 _ (by omega), n7] at hc
    rw [e16 c (by omega)]
    exact b3 c (by rw [n7]; exact hc)
  · rw [e17 _ (by omega)]; exact n4
  · rw [e17 _ (by omega)]; exact n5
  · intro j j0 j1
    unfold cpx
    rw [if_pos ⟨rfl, by omega, by omega⟩, e7]
    congr 1
    omega
  · intro c h1 h2
    rw [e16 c h2]; exact n9 c h2 h1
  · rw [e16 _ (by omega)]; exact n7
  · rw [e16 _ (by omega)]; exact n8
  · intro i hi
    rw [e16 _ (by omega), ← n1]; exact nwx_K ha hi
/-- one more in a list -/
theorem add_ev (ha : al τ) {S : Int → Prop} (hS : ∀ y, S y → 1514 ≤ y) {lc x : Int} {es : List Int} (hl : lstX τ S lc es) (hcap : 2 ≤ τ (τ lc 1) (-2) ∧ τ (τ lc 1) (-2) ≤ 2 * es.length + 4) (hlen : es.length ≤ 1700) (hx : 1514 ≤ x ∧ 0 < τ x (-1) ∧ τ x (-1) < 100) (hes : ∀ y ∈ es, 0 < τ y (-1) ∧ τ y (-1) < 100) :
    ∃ τ', j2_add true lc x τ = some (1, τ') ∧ al τ' ∧ (∀ y, y ≠ -1 → y ≠ lc → y ≠ τ' lc 1 → τ' y = τ y) ∧ ((τ' lc 1 = τ lc 1 ∧ τ' (-1) = τ (-1)) ∨ (τ' lc 1 = τ (-1) 0 ∧ τ' (-1) 0 = τ (-1) 0 + 1)) ∧ (∀ S' : Int → Prop, (∀ y, S y → S' y) → S' x → S' (τ' lc 1) → lstX τ' S' lc (es ++ [x])) ∧ (2 ≤ τ' (τ' lc 1) (-2) ∧ τ' (τ' lc 1) (-2) ≤ 2 * (es.length + 1) + 4) ∧ (τ (-1) 0 ≤ τ' (-1) 0 ∧ τ' (-1) 0 ≤ τ (-1) 0 + 1) ∧ (τ (-1) 1 ≤ τ' (-1) 1 ∧ τ' (-1) 1 ≤ τ (-1) 1 + 4 * (τ' (τ' lc 1) (-2) - τ (τ lc 1) (-2))) ∧ ∀ i, 2 ≤ i → τ' (-1) i = τ (-1) i := by
  have hN := ha.1
  have hSl := ha.2.1
  obtain ⟨⟨a1, a2⟩, ⟨b1, b2⟩, h3, h4, h5, h6⟩ := hl
  have a1' := hS _ a1
  have b1' := hS _ b1
  have ne : τ lc 1 ≠ lc := fun e => by rw [e] at b2; omega
  have hlN := tag_lt ha a2 (by decide)
  have hbN := tag_lt ha b2 (by decide)
  have hxN := tag_lt ha (c := x) rfl (by omega)
  have x1 : x ≠ lc ∨ τ x (-1) = 21 := by by_cases q : x = lc; exact Or.inr (by rw [q]; exact a2); exact Or.inl q
  obtain ⟨s5, e5⟩ : ∃ s, ux τ lc 0 (τ lc 0 + 1) = s := ⟨_, rfl⟩
  have f1 : ∀ c, c ≠ lc → s5 c = τ c := fun c hc => by rw [← e5]; exact ux_cell hc
  have f2 : ∀ i, i ≠ 0 → s5 lc i = τ lc i := fun i hi => by rw [← e5]; exact ux_i _ _ _ _ hi
  have al5 : al s5 := by rw [← e5]; exact ha.u (by omega) (by omega)
  have fN : s5 (-1) = τ (-1) := f1 _ (by omega)
  have fa : s5 (τ lc 1) = τ (τ lc 1) := f1 _ ne
  have g0 := tgf (τ := τ) (t := 21) (new_fre a1') a2
  have g1 := tgf (τ := s5) (t := 21) (new_fre a1') (by rw [f2 _ (by decide)]; exact a2)
  have g2 := tgf (τ := s5) (t := 110) (new_fre b1') (by rw [fa]; exact b2)
  have k1 : s5 lc 1 = τ lc 1 := f2 1 (by decide)
  have k2 : s5 lc 2 = (es.length : Int) := by rw [f2 2 (by decide)]; exact h3
  have kl : ln true s5 (τ lc 1) = τ (τ lc 1) (-2) := by rw [ln_fre (new_fre b1'), fa]
  have nb := fre_nf (new_fre b1')
  have nx := fre_nf (new_fre hx.1)
  have tagx : ∀ (s : XS), s x (-1) = τ x (-1) → 0 < tg true s x ∧ tg true s x < 100 := fun s h => by rw [tg_fre (new_fre hx.1), h]; omega
  generalize hcp : τ (τ lc 1) (-2) = cap at *
  generalize hln : (es.length : Int) = len at *
  have hlen' : len ≤ 1700 := by omega
  have h0 : 0 ≤ len := by omega
  by_cases hg : len = cap
  · obtain ⟨s13, c1, c2, c3, c4, c5, c6, c7, c8, c9⟩ := copy_ev al5 (a := τ lc 1) (nw := grw cap) b1' (by rw [fa]; exact b2) (cap := cap) (by rw [fa]; exact hcp) (by omega) (by have := grw_b hcap.1; omega) (fun j j0 j1 => by
      have hj : j.toNat < es.length := by omega
      obtain ⟨q1, q2⟩ := h6 j.toNat _ (List.getElem?_eq_getElem hj)
      rw [Int.toNat_of_nonneg j0] at q1
      have q3 := hS _ q2
      have q4 := hes _ (List.getElem_mem hj)
      rw [fa, q1]
      have q5 : s5 (es[j.toNat]) (-1) = τ (es[j.toNat]) (-1) := by
        by_cases q : es[j.toNat] = lc
        · rw [q]; exact f2 _ (by decide)
        · rw [f1 _ q]
      rw [q5]
      exact ⟨q3, q4⟩)
    rw [fN] at c1 c3 c4 c5 c6 c7 c8 c9
    have gb := grw_b hcap.1
    have m1 : s13 lc = s5 lc := c6 lc (by omega) (by omega)
    have t13 := tgf (τ := s13) (t := 21) (new_fre a1') (by rw [m1, f2 _ (by decide)]; exact a2)
    have nN := fre_nf (new_fre hN)
    obtain ⟨s17, e17⟩ : ∃ s, ux s13 lc 1 (τ (-1) 0) = s := ⟨_, rfl⟩
    have p1 : ∀ c, c ≠ lc → s17 c = s13 c := fun c hc => by rw [← e17]; exact ux_cell hc
    have t17 := tgf (τ := s17) (t := 110) (new_fre hN) (by rw [p1 _ (by omega)]; exact c3)
    have l17 : ln true s17 (τ (-1) 0) = grw cap := by rw [ln_fre (new_fre hN), p1 _ (by omega)]; exact c4
    have tx := tagx s17 (by
      by_cases q : x = lc
      · rw [q, ← e17, ux_i _ _ _ _ (by decide), m1, f2 _ (by decide)]
      · rw [p1 _ q, c6 x (by omega) (by omega), f1 _ q])
    obtain ⟨s18, e18⟩ : ∃ s, ux s17 (τ (-1) 0) len x = s := ⟨_, rfl⟩
    have t18 := tgf (τ := s18) (t := 21) (new_fre a1') (by rw [← e18, ux_cell (by omega), ← e17, ux_i _ _ _ _ (by decide), m1, f2 _ (by decide)]; exact a2)
    refine ⟨ux s18 lc 2 (len + 1), ?_, ?_, ?_, ?_, ?_, ?_, ?_, ?_, ?_⟩
    · unfold j2_add j2_add_2 j2_grow j2_grow_2
      simp (disch := omega) only [gd_t, gd_T, gd_ok, not_false_eq_true, eq_self, bnd_r, bind_s, ite_t, ite_n, ite_T, ite_F, i32_id, g0, e5, g1, k1, nb, k2, g2, kl, half_ev (a := cap) (by omega), newLen_ev (c := cap) (d := len + 1 - cap) (τ := s5) (by omega) (by omega), c1, t13, nN, e17, t17, l17, gd_t tx, nx, e18, t18]
    · have q1 : al s17 := by rw [← e17]; exact c2.u (by omega) (by omega)
      have q2 : al s18 := by rw [← e18]; exact q1.u (by omega) (by omega)
      exact q2.u (by omega) (by omega)
    · intro y y1 y2 y3
      have y3 : y ≠ τ (-1) 0 := fun e => y3 (by rw [ux_i _ _ _ _ (by decide), ← e18, ux_cell (by omega), ← e17, ux_s]; exact e)
      rw [ux_cell y2, ← e18, ux_cell y3, p1 y y2, c6 y y1 y3, f1 y y2]
    · right
      refine ⟨by rw [ux_i _ _ _ _ (by decide), ← e18, ux_cell (by omega), ← e17, ux_s], by rw [ux_cell (by omega), ← e18, ux_cell (by omega), p1 _ (by omega)]; exact c7⟩
    · intro S' s1 s2 s3
      have r1 : ux s18 lc 2 (len + 1) lc 1 = τ (-1) 0 := by rw [ux_i _ _ _ _ (by decide), ← e18, ux_cell (by omega), ← e17, ux_s]
      have r2 : ux s18 lc 2 (len + 1) (τ (-1) 0) = s18 (τ (-1) 0) := ux_cell (by omega)
      rw [r1] at s3
      refine ⟨⟨s1 _ a1, by rw [ux_i _ _ _ _ (by decide), ← e18, ux_cell (by omega), ← e17, ux_i _ _ _ _ (by decide), m1, f2 _ (by decide)]; exact a2⟩, ?_⟩
      rw [r1, r2]
      refine ⟨⟨s3, by rw [← e18, ux_i _ _ _ _ (by omega), p1 _ (by omega)]; exact c3⟩, by rw [ux_s, List.length_append, List.length_singleton]; omega, ?_, ?_, fun i y hi => ?_⟩
      · rw [← e18, ux_i _ _ _ _ (by omega), p1 _ (by omega), c4, List.length_append, List.length_singleton]; omega
      · rw [← e18, ux_i _ _ _ _ (by omega), p1 _ (by omega), c4]; omega
      · by_cases q : i < es.length
        · rw [List.getElem?_append_left q] at hi
          obtain ⟨q1, q2⟩ := h6 i y hi
          refine ⟨?_, s1 _ q2⟩
          rw [← e18, ux_i _ _ _ _ (by omega), p1 _ (by omega), c5 i (by omega) (by omega), fa]
          exact q1
        · rw [List.getElem?_append_right (by omega)] at hi
          have hi0 : i = es.length := by
            have := (List.getElem?_eq_some_iff.mp hi).1
            simp at this
            omega
          rw [hi0] at hi ⊢
          simp at hi
          subst hi
          refine ⟨?_, s2⟩
          rw [hln, ← e18, ux_s]
    · have r1 : ux s18 lc 2 (len + 1) lc 1 = τ (-1) 0 := by rw [ux_i _ _ _ _ (by decide), ← e18, ux_cell (by omega), ← e17, ux_s]
      rw [r1, ux_cell (by omega), ← e18, ux_i _ _ _ _ (by omega), p1 _ (by omega), c4]
      omega
    · rw [ux_cell (by omega), ← e18, ux_cell (by omega), p1 _ (by omega), c7]
      omega
    · have r1 : ux s18 lc 2 (len + 1) lc 1 = τ (-1) 0 := by rw [ux_i _ _ _ _ (by decide), ← e18, ux_cell (by omega), ← e17, ux_s]
      rw [r1, ux_cell (by omega), ux_cell (by omega), ← e18, ux_cell (by omega), ux_i _ _ _ _ (by omega), p1 _ (by omega), p1 _ (by omega), c8, c4]
      omega
    · intro i hi
      rw [ux_cell (by omega), ← e18, ux_cell (by omega), p1 _ (by omega), c9 i hi]
  · have hlt : len < cap := by omega
    have tx := tagx s5 (by
      by_cases q : x = lc
      · rw [q, f2 _ (by decide)]
      · rw [f1 _ q])
    obtain ⟨s18, e18⟩ : ∃ s, ux s5 (τ lc 1) len x = s := ⟨_, rfl⟩
    have t18 := tgf (τ := s18) (t := 21) (new_fre a1') (by rw [← e18, ux_cell (fun h => ne h.symm), f2 _ (by decide)]; exact a2)
    have r0 : s18 lc = s5 lc := by rw [← e18]; exact ux_cell (fun h => ne h.symm)
    have r1 : ux s18 lc 2 (len + 1) lc 1 = τ lc 1 := by rw [ux_i _ _ _ _ (by decide), r0, k1]
    have r2 : ux s18 lc 2 (len + 1) (τ lc 1) = s18 (τ lc 1) := ux_cell ne
    refine ⟨ux s18 lc 2 (len + 1), ?_, ?_, ?_, ?_, ?_, ?_, ?_, ?_, ?_⟩
    · unfold j2_add j2_add_2
      simp (disch := omega) only [gd_t, gd_T, gd_ok, not_false_eq_true, eq_self, bnd_r, bind_s, ite_t, ite_n, ite_T, ite_F, i32_id, g0, e5, g1, k1, nb, k2, g2, kl, gd_t tx, nx, e18, t18]
    · have q2 : al s18 := by rw [← e18]; exact al5.u (by omega) (by omega)
      exact q2.u (by omega) (by omega)
    · intro y y1 y2 y3
      rw [r1] at y3
      rw [ux_cell y2, ← e18, ux_cell y3, f1 y y2]
    · left
      exact ⟨r1, by rw [ux_cell (by omega), ← e18, ux_cell (by omega), fN]⟩
    · intro S' s1 s2 s3
      refine ⟨⟨s1 _ a1, by rw [ux_i _ _ _ _ (by decide), r0, f2 _ (by decide)]; exact a2⟩, ?_⟩
      rw [r1, r2]
      refine ⟨⟨s1 _ b1, by rw [← e18, ux_i _ _ _ _ (by omega), fa]; exact b2⟩, by rw [ux_s, List.length_append, List.length_singleton]; omega, ?_, ?_, fun i y hi => ?_⟩
      · rw [← e18, ux_i _ _ _ _ (by omega), fa, hcp, List.length_append, List.length_singleton]; omega
      · rw [← e18, ux_i _ _ _ _ (by omega), fa, hcp]; omega
      · by_cases q : i < es.length
        · rw [List.getElem?_append_left q] at hi
          obtain ⟨q1, q2⟩ := h6 i y hi
          refine ⟨?_, s1 _ q2⟩
          rw [← e18, ux_i _ _ _ _ (by omega), fa]
          exact q1
        · rw [List.getElem?_append_right (by omega)] at hi
          have hi0 : i = es.length := by
            have := (List.getElem?_eq_some_iff.mp hi).1
            simp at this
            omega
          rw [hi0] at hi ⊢
          simp at hi
          subst hi
          refine ⟨?_, s2⟩
          rw [hln, ← e18, ux_s]
    · rw [r1, r2, ← e18, ux_i _ _ _ _ (by omega), fa, hcp]
      omega
    · rw [ux_cell (by omega), ← e18, ux_cell (by omega), fN]
      omega
    · rw [r1, r2, ux_cell (by omega), ← e18, ux_cell (by omega), ux_i _ _ _ _ (by omega), fN, fa, hcp]
      omega
    · intro i hi
      rw [ux_cell (by omega), ← e18, ux_cell (by omega), fN]
end
