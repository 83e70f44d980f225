set_option maxRecDepth 100000
/-! LAYER 2: asked, whole -/
section
variable {τ τ' τ'' : XS} {s s' : MS} {N c a b : Int} {es fs : List Int} {ws vs : List (List Int)}
theorem shl_p : ∀ n : Nat, n ≤ 6 → i32 (ishl 1 n) = 2 ^ n := by decide +kernel
theorem pw_le : ∀ n : Nat, n ≤ 6 → (2 : Int) ^ n ≤ 64 ∧ 1 ≤ (2 : Int) ^ n := by decide +kernel
/-- between two trials -/
def TJ (τ : XS) (s : MS) (N : Int) (es fs : List Int) (ws vs : List (List Int)) (t : XS) (m : MS) : Prop := (onQ τ t ∧ rwR t 99) ∧ (only thk s m ∧ m 60 0 = 1 ∧ ∀ j : Int, 0 ≤ j → j < 68 → m 49 j = s 48 j) ∧ ∀ j : Int, 0 ≤ j → m 48 j = s 48 j
theorem TJ.go (h : INV τ s N es fs ws vs) {t : XS} {m : MS} (hT : TJ τ s N es fs ws vs t m) : ∃ t', x7_copy 99 36 t = some (99, t') ∧ TH τ s N es fs ws vs t' m := by
  obtain ⟨⟨q1, q2⟩, ⟨q3, q4, q5⟩, q6⟩ := hT
  obtain ⟨t', a1, a2, a3⟩ := copy99 h q1 q2
  exact ⟨t', a1, th_of h q1 q2 a2 a3 q3 q4 q5 q6⟩
theorem TH.anew {t : XS} {m : MS} (hT : TH τ s N es fs ws vs t m) : ∃ m', m_triesAnew m = some (0, m') ∧ TJ τ s N es fs ws vs t m' ∧ only [48] m m' := by
  obtain ⟨⟨q1, q2⟩, q3, q4, q5, q6, q7⟩ := hT
  obtain ⟨m', b1, b2, b3, b4⟩ := anew_ev (s := m)
  refine ⟨m', b1, ⟨⟨q1, q4.1.1⟩, ⟨q2.tr (b2.mono (by decide)), by rw [b2 60 (by decide)]; exact q5, fun j j0 j1 => by rw [b2 49 (by decide)]; exact q6 j j0 j1⟩, fun j hj => ?_⟩, b2⟩
  by_cases c : j < 68
  · rw [b3 j hj c, q6 j hj c]
  · rw [b4 j (by omega), q7 j (by omega)]
theorem TJ.fin {t : XS} {m : MS} (hT : TJ τ s N es fs ws vs t m) : ∃ m', m_takesBack m = some (0, m') ∧ only [48, 60] m m' ∧ only thk s m' ∧ (∀ j : Int, 0 ≤ j → m' 48 j = s 48 j) ∧ m' 60 0 = 0 := by
  obtain ⟨⟨q1, q2⟩, ⟨q3, q4, q5⟩, q6⟩ := hT
  obtain ⟨m1, b1, b2, b3, b4⟩ := anew_ev (s := m)
  have o1 : only [48, 60] m (up m1 60 0 0) := (b2.mono (by simp)).tr (only.up (by decide))
  refine ⟨up m1 60 0 0, ?_, o1, q3.tr (o1.mono (by decide)), fun j hj => ?_, by rw [up_s]⟩
  · unfold m_takesBack
    exact st_bind b1 (st_bnd rfl)
  · rw [up_row (by decide)]
    by_cases c : j < 68
    · rw [b3 j hj c, q5 j hj c]
    · rw [b4 j (by omega), q6 j (by omega)]
theorem asked_go (h : INV τ s N es fs ws vs) (k2 : Int → MS → Option (Int × MS)) :
    ∀ (d : Nat) (x1 S : Int) (t : XS) (m : MS) (f g : Nat), 0 ≤ S → S + d = 2 ^ ws.length → (x1 = -1 ∨ (0 ≤ x1 ∧ x1 < 64)) → d + 1 ≤ f → d + 1 ≤ g → TJ τ s N es fs ws vs t m → ∃ z t' m', x0_asked_L13 (fun (x1_69 : Int) (s70 : XS) => some (x1_69, s70)) f x1 S t = some (z, t') ∧ m_asked_L17 k2 g x1 S m = k2 z m' ∧ TJ τ s N es fs ws vs t' m' := by
  have hn := h.le
  have hp := shl_p ws.length hn.1
  obtain ⟨hp2, hp3⟩ := pw_le ws.length hn.1
  intro d
  induction d with
  | zero =>
    intro x1 S t m f g hi hd hx hf hg hT
    have e36 : m 36 2 = ws.length := by rw [hT.2.1.1 36 (by decide)]; exact hn.2.2.1
    have ct : cty t ws.length vs.length := (h.q hT.1.1 (only.rf) hT.1.2).2.2.2.1.cty
    have q : i32 (ishl 1 (ws.length : Int)) ≤ i32 S := by rw [hp, i32_id (by omega) (by omega)]; omega
    cases f with
    | zero => omega
    | succ f =>
      cases g with
      | zero => omega
      | succ g =>
        refine ⟨x1, t, m, ?_, ?_, hT⟩
        · rw [x0_asked_L13]
          exact st_bind (sayings_ev ct) (st_t q rfl)
        · rw [m_asked_L17]
          exact st_bind (sayMany_ev e36) (st_t q rfl)
  | succ d ih =>
    intro x1 S t m f g hi hd hx hf hg hT
    have e36 : m 36 2 = ws.length := by rw [hT.2.1.1 36 (by decide)]; exact hn.2.2.1
    have ct : cty t ws.length vs.length := (h.q hT.1.1 (only.rf) hT.1.2).2.2.2.1.cty
    have q : ¬ i32 (ishl 1 (ws.length : Int)) ≤ i32 S := by rw [hp, i32_id (by omega) (by omega)]; omega
    cases f with
    | zero => omega
    | succ f =>
      cases g with
      | zero => omega
      | succ g =>
        -- a trial
        have try1 : ∃ w t1 m1, (w = x1 ∨ w = S) ∧ TJ τ s N es fs ws vs t1 m1 ∧ (Option.bind (x7_copy 99 36 t) fun z20 => gd (z20.1 = 99) <| bnd 0 fun x3_22 => x0_asked_L56 (fun (x1_57 : Int) (x2_58 : Int) (s59 : XS) => Option.bind (x5_by 99 s59) fun z60 => gd (z60.1 = 14) <| Option.bind (x5_dark z60.2) fun z62 => if i32 z62.1 = 0 then (bnd (x2_58 + 1) fun x2_15 => x0_asked_L13 (fun (x1_69 : Int) (s70 : XS) => some (x1_69, s70)) f x2_58 x2_15 z62.2) else (bnd (x2_58 + 1) fun x2_15 => x0_asked_L13 (fun (x1_69 : Int) (s70 : XS) => some (x1_69, s70)) f x1_57 x2_15 z62.2)) FU x1 S x3_22 z20.2) = x0_asked_L13 (fun (x1_69 : Int) (s70 : XS) => some (x1_69, s70)) f w (S + 1) t1 ∧
            (bnd 0 fun x3_20 => m_asked_L48 (fun (x1_41 : Int) (x2_42 : Int) (s43 : MS) => Option.bind (m_laysRound s43) fun z44 => gd (ok 4 2) <| bnd (fun (x1_46 : Int) (x2_47 : Int) (s48 : MS) => Option.bind (m_triesAnew s48) fun z49 => (bnd (x2_47 + 1) fun x2_15 => m_asked_L17 k2 g x1_46 x2_15 z49.2)) fun j50 => if i32 (z44.2 35 (i32 2)) < i32 (z44.2 59 0) then j50 x1_41 x2_42 z44.2 else j50 x2_42 x2_42 z44.2) FU x1 S x3_20 m) = m_asked_L17 k2 g w (S + 1) m1 := by
          obtain ⟨t0, a1, a2⟩ := hT.go h
          obtain ⟨t1, m1, b1, b2, b3⟩ := asked_in h (x1 := x1) (S := S) ⟨hi, by omega⟩ (fun (x1_57 : Int) (x2_58 : Int) (s59 : XS) => Option.bind (x5_by 99 s59) fun z60 => gd (z60.1 = 14) <| Option.bind (x5_dark z60.2) fun z62 => if i32 z62.1 = 0 then (bnd (x2_58 + 1) fun x2_15 => x0_asked_L13 (fun (x1_69 : Int) (s70 : XS) => some (x1_69, s70)) f x2_58 x2_15 z62.2) else (bnd (x2_58 + 1) fun x2_15 => x0_asked_L13 (fun (x1_69 : Int) (s70 : XS) => some (x1_69, s70)) f x1_57 x2_15 z62.2)) (fun (x1_41 : Int) (x2_42 : Int) (s43 : MS) => Option.bind (m_laysRound s43) fun z44 => gd (ok 4 2) <| bnd (fun (x1_46 : Int) (x2_47 : Int) (s48 : MS) => Option.bind (m_triesAnew s48) fun z49 => (bnd (x2_47 + 1) fun x2_15 => m_asked_L17 k2 g x1_46 x2_15 z49.2)) fun j50 => if i32 (z44.2 35 (i32 2)) < i32 (z44.2 59 0) then j50 x1_41 x2_42 z44.2 else j50 x2_42 x2_42 z44.2) ws.length 0 t0 m FU FU (by omega) (by omega) (by have := FU_ge; omega) (by have := FU_ge; omega) a2 (fun j j0 j1 => ⟨hT.2.2 _ (by omega), hT.2.2 _ (by omega)⟩)
          obtain ⟨l, t2, m2, D, r1, r2, ⟨r3, r4⟩, r5, r6, r7, ⟨r8, r9⟩, -, r11⟩ := round_ok b3.2.1
          have hT2 := b3.lx r3 r4
          obtain ⟨m3, d1, d2, -⟩ := hT2.anew
          have e35 : m2 35 = s 35 := hT2.1.2 35 (by decide)
          have e35' : m1 35 = s 35 := b3.1.2 35 (by decide)
          obtain ⟨-, -, ⟨⟨-, g1, g2⟩, -⟩, -⟩ := h.2.2.2.1
          have i35 : i32 (m2 35 (i32 2)) = s 35 2 := by rw [e35, show i32 2 = 2 by decide]; exact i32_id (by omega) (by omega)
          have i59 : i32 (m2 59 0) = m2 59 0 := i32_id (by omega) (by omega)
          rw [e35'] at r11
          have iD : i32 D = D := i32_id (by omega) (by omega)
          by_cases qD : D = 0
          · refine ⟨S, t2, m3, Or.inr rfl, d2, st_bind a1 (st_gd rfl (st_bnd (b1.trans (st_bind r1 (st_gd rfl (st_bind r8 (st_t (by rw [iD]; exact qD) rfl)))))))
              , st_bnd (b2.trans (st_bind r2 (st_gd (by decide) (st_bnd (st_f ?_ (st_bind d1 rfl))))))⟩
            dsimp only
            rw [i35, i59]
            have := r11.mp qD
            omega
          · refine ⟨x1, t2, m3, Or.inl rfl, d2, st_bind a1 (st_gd rfl (st_bnd (b1.trans (st_bind r1 (st_gd rfl (st_bind r8 (st_f (by rw [iD]; exact qD) rfl)))))))
              , st_bnd (b2.trans (st_bind r2 (st_gd (by decide) (st_bnd (st_t ?_ (st_bind d1 rfl))))))⟩
            dsimp only
            rw [i35, i59]
            have := fun q => qD (r11.mpr q)
            omega
        have pS := pop_b (a := S) ⟨hi, by omega⟩
        have iS : i32 (popF S) = popF S := i32_id (by omega) (by omega)
        by_cases q1 : x1 = -1 ∨ popF S < popF x1
        · obtain ⟨w, t1, m1, w1, w2, w3, w4⟩ := try1
          obtain ⟨z, t', m', c1, c2, c3⟩ := ih w (S + 1) t1 m1 f g (by omega) (by omega) (by omega) (by omega) (by omega) w2
          by_cases q2 : x1 = -1
          · have n1 : i32 x1 = i32 (-1) := by rw [q2]
            refine ⟨z, t', m', ?_, ?_, c3⟩
            · rw [x0_asked_L13]
              exact st_bind (sayings_ev ct) (st_f q (st_bnd (st_bnd (st_t n1 (w3.trans c1)))))
            · rw [m_asked_L17]
              exact st_bind (sayMany_ev e36) (st_f q (st_bnd (st_bnd (st_t n1 (w4.trans c2)))))
          · have n1 : ¬ i32 x1 = i32 (-1) := n1m (by omega)
            have px := pop_b (a := x1) (by omega)
            have lt : i32 (popF S) < i32 (popF x1) := by rw [iS, i32_id (by omega) (by omega)]; omega
            refine ⟨z, t', m', ?_, ?_, c3⟩
            · rw [x0_asked_L13]
              exact st_bind (sayings_ev ct) (st_f q (st_bnd (st_bnd (st_f n1 (st_bind (bitCount_ev t ⟨hi, by omega⟩) (st_bind (bitCount_ev t (by omega)) (st_t lt (w3.trans c1))))))))
            · rw [m_asked_L17]
              exact st_bind (sayMany_ev e36) (st_f q (st_bnd (st_bnd (st_f n1 (st_bind (bits_ev ⟨hi, by omega⟩) (st_bind (bits_ev (by omega)) (st_t lt (w4.trans c2))))))))
        · obtain ⟨z, t', m', c1, c2, c3⟩ := ih x1 (S + 1) t m f g (by omega) (by omega) (by omega) (by omega) (by omega) hT
          have n1 : ¬ i32 x1 = i32 (-1) := n1m (by omega)
          have px := pop_b (a := x1) (by omega)
          have lt : ¬ i32 (popF S) < i32 (popF x1) := by rw [iS, i32_id (by omega) (by omega)]; omega
          refine ⟨z, t', m', ?_, ?_, c3⟩
          · rw [x0_asked_L13]
            exact st_bind (sayings_ev ct) (st_f q (st_bnd (st_bnd (st_f n1 (st_bind (bitCount_ev t ⟨hi, by omega⟩) (st_bind (bitCount_ev t (by omega)) (st_f lt (st_bnd c1))))))))
          · rw [m_asked_L17]
            exact st_bind (sayMany_ev e36) (st_f q (st_bnd (st_bnd (st_f n1 (st_bind (bits_ev ⟨hi, by omega⟩) (st_bind (bits_ev (by omega)) (st_f lt (st_bnd c2))))))))
theorem CLs.asked (h : INV τ s N es fs ws vs) : CL τ s (x0_asked τ) (m_asked s) := by
  have hn := h.le
  obtain ⟨hp2, hp3⟩ := pw_le ws.length hn.1
  unfold x0_asked m_asked
  obtain ⟨x1, hc⟩ := isC_x h
  rcases hc with c1 | c1
  · exact h.same (z := -1) (st_bind x1 (st_t (z0b (by omega)) rfl)) (st_t (by rw [c1]; exact i32_0) rfl)
  · have n46 : ¬ i32 (s 46 0) = 0 := by rw [c1]; exact n10
    obtain ⟨m, b1, b2, b3, b4⟩ := aside_ev (s := s)
    have hJ : TJ τ s N es fs ws vs τ m := ⟨⟨onQ.rf, h.2.2.2.2.2.1⟩, ⟨b2.mono (by decide), b3, b4⟩, fun j _ => by rw [b2 48 (by decide)]⟩
    obtain ⟨z, t', m', a1, a2, a3⟩ := asked_go h (fun (x1_57 : Int) (s58 : MS) => Option.bind (m_takesBack s58) fun z59 => some (x1_57, z59.2)) ((2 : Int) ^ ws.length).toNat (-1) 0 τ m FU FU (by omega) (by omega) (Or.inl rfl) (by have := FU_ge; omega) (by have := FU_ge; omega) hJ
    obtain ⟨m2, d1, d2, d3, d4, d5⟩ := a3.fin
    exact h.qc2 (z := z) (st_bind x1 (st_f (z1b c1) (st_bnd (st_bnd a1)))) (st_f n46 (st_bnd (st_bind b1 (st_bnd (a2.trans (st_bind d1 rfl)))))) a3.1.1 d3 d4 d5 a3.1.2
end
