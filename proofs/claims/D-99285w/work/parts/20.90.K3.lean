set_option maxRecDepth 100000
/-! LAYER 2: mute -/
section
variable {τ τ' : XS} {s s' : MS} {N c a b : Int} {es fs : List Int} {ws vs : List (List Int)}
theorem TH.up61 {t : XS} {m : MS} (hT : TH τ s N es fs ws vs t m) (v : Int) : TH τ s N es fs ws vs t (up m 61 0 v) := by
  obtain ⟨⟨q1, q2⟩, q3, q4, q5, q6, q7⟩ := hT
  have o : only [61] m (up m 61 0 v) := only.up (by decide)
  exact ⟨⟨q1, q2.tr (o.mono (by decide))⟩, q3.lx lox.rf (stn.of o (by decide)) (o 48 (by decide)), q4.kp (fun _ _ _ => rfl) rfl (o 60 (by decide)) (fun j _ => by rw [o 48 (by decide)]), by rw [o 60 (by decide)]; exact q5, fun j j0 j1 => by rw [o 49 (by decide)]; exact q6 j j0 j1, fun j hj => by rw [o 48 (by decide)]; exact q7 j hj⟩
theorem mute_go (h : INV τ s N es fs ws vs) (h46 : s 46 0 = 1) (k : Int → MS → Option (Int × MS)) :
    ∀ (d : Nat) (i : Int) (t : XS) (m : MS) (f g : Nat), 0 ≤ i → i + d = 61 → d + 1 ≤ f → d + 2 ≤ g → TH τ s N es fs ws vs t m → m 48 0 = s 48 0 + i → ∃ z t' m', x0_mute_L14 (fun (s14 : XS) => some ((-1), s14)) (fun (x1_15 : Int) (s16 : XS) => some (x1_15, s16)) f i t = some (z, t') ∧ m_mute_L17 k g (-1) i m = k z m' ∧ TH τ s N es fs ws vs t' m' := by
  have hd := h.2.2.2.2.1.1.1
  have hd2 := h.2.2.2.2.1.2.2.2
  intro d
  induction d with
  | zero =>
    intro i t m f g hi hd hf hg hT h48
    have e : i = 61 := by omega
    rw [e]
    cases f with
    | zero => omega
    | succ f =>
      cases g with
      | zero => omega
      | succ g =>
        refine ⟨-1, t, m, ?_, ?_, hT⟩
        · rw [x0_mute_L14]
          exact st_bind (ahead_x h hT.1.1 (a := 61 + 1) (lo := 1) (hi := 61) ⟨by decide, by decide⟩ ⟨by decide, by decide⟩ ⟨by decide, by decide⟩) (st_t (z0b (by omega)) rfl)
        · rw [m_mute_L17]
          exact st_t (by decide) rfl
  | succ d ih =>
    intro i t m f g hi hd hf hg hT h48
    cases f with
    | zero => omega
    | succ f =>
      cases g with
      | zero => omega
      | succ g =>
        have ii : i32 i = i := i32_id (by omega) (by omega)
        have x3 := ahead_x h hT.1.1 (a := i + 1) (lo := 1) (hi := 61) (by unfold rgI; omega) ⟨by decide, by decide⟩ ⟨by decide, by decide⟩
        have m48 : i32 (m 48 (i32 0)) = s 48 0 + i := by rw [i32_0, h48]; exact i32_id (by omega) (by omega)
        have n60 : ¬ i32 60 < i32 i := by rw [ii, show i32 60 = 60 by decide]; omega
        by_cases c3 : s 46 0 = 1 ∧ (1 ≤ i + 1 ∧ i + 1 ≤ 61) ∧ s 48 0 + (i + 1) ≤ 999
        · obtain ⟨z, t1, m1, a1, a2, a3, a4, ⟨z0, z6, z61⟩, a6, -, -⟩ := th_day (hT.up61 0) (by rw [up_row (by decide)]; omega)
          rw [up_s] at z61
          rw [up_row (by decide)] at a6
          have n999 : ¬ i32 999 ≤ i32 (m 48 (i32 0)) := by rw [m48, show i32 999 = 999 by decide]; omega
          have e61 : i32 (m1 61 0) = z := by rw [z61, i32_id (by omega) (by omega)]; omega
          have ez : i32 z = z := i32_id (by omega) (by omega)
          by_cases q : z = 0
          · cases g with
            | zero => omega
            | succ g =>
              refine ⟨i, t1, m1, ?_, ?_, a3⟩
              · rw [x0_mute_L14]
                exact st_bind x3 (st_f (z1b c3) (st_bind a1 (st_t (by rw [ez]; exact q) rfl)))
              · rw [m_mute_L17]
                refine st_f n60 (st_t rfl (st_gd (by decide) (st_f n999 (st_bnd (st_bind a2 (st_bnd (st_t (by rw [e61]; exact q) (st_bnd ?_))))))))
                rw [m_mute_L17]
                by_cases q2 : i32 60 < i32 (i + 1)
                · exact st_t q2 rfl
                · exact st_f q2 (st_f (n1m ⟨by omega, by omega⟩) rfl)
          · obtain ⟨z', t2, m2, b1, b2, b3⟩ := ih (i + 1) t1 m1 f g (by omega) (by omega) (by omega) (by omega) a3 (by omega)
            refine ⟨z', t2, m2, ?_, ?_, b3⟩
            · rw [x0_mute_L14]
              exact st_bind x3 (st_f (z1b c3) (st_bind a1 (st_f (by rw [ez]; exact q) (st_bnd b1))))
            · rw [m_mute_L17]
              exact st_f n60 (st_t rfl (st_gd (by decide) (st_f n999 (st_bnd (st_bind a2 (st_bnd (st_f (by rw [e61]; exact q) (st_bnd b2))))))))
        · refine ⟨-1, t, m, ?_, ?_, hT⟩
          · rw [x0_mute_L14]
            exact st_bind x3 (st_t (z0b c3) rfl)
          · rw [m_mute_L17]
            exact st_f n60 (st_t rfl (st_gd (by decide) (st_t (by rw [m48, show i32 999 = 999 by decide]; omega) rfl)))
theorem CLs.mute (h : INV τ s N es fs ws vs) : CL τ s (x0_mute τ) (m_mute s) := by
  have hn := h.le
  have hd := h.2.2.2.2.1.1.1
  unfold x0_mute m_mute
  by_cases c1 : s 46 0 = 1
  · obtain ⟨t, m, a1, a2, a3, a4, -⟩ := th_start h
    obtain ⟨z, t1, m1, b1, b2, b3⟩ := mute_go h c1 (fun (x1_22 : Int) (s23 : MS) => Option.bind (m_takesBack s23) fun z24 => some (x1_22, z24.2)) 61 0 t m FU FU (by omega) (by omega) (by have := FU_ge; omega) (by have := FU_ge; omega) a3 (by rw [a4 0 (by omega)]; omega)
    obtain ⟨m2, d1, d2, d3, d4, d5⟩ := th_end b3
    have n46 : ¬ i32 (s 46 0) = 0 := by rw [c1]; exact n10
    exact h.qc2 (z := z) (st_bind a1 (st_gd rfl (st_bnd b1))) (st_f n46 (st_bnd (st_bind a2 (st_bnd (b2.trans (st_bind d1 rfl)))))) b3.1.1 d3 d4 d5 b3.wl
  · obtain ⟨t, a1, a2, a3⟩ := copy99 h onQ.rf h.2.2.2.2.2.1
    have x3 := ahead_x h a2 (a := 0 + 1) (lo := 1) (hi := 61) ⟨by decide, by decide⟩ ⟨by decide, by decide⟩ ⟨by decide, by decide⟩
    have z46 : i32 (s 46 0) = 0 := by rw [show s 46 0 = 0 by have := (isC_x h).2; omega]; exact i32_0
    obtain ⟨f, hf⟩ := FU_s
    refine h.qc (z := -1) (τ' := t) (s' := s) (st_bind a1 (st_gd rfl (st_bnd ?_))) (st_t z46 rfl) a2 only.rf (a3.rows h.2.2.2.2.2.1)
    rw [hf, x0_mute_L14]
    exact st_bind x3 (st_t (z0b (fun q => c1 q.1)) rfl)
end
