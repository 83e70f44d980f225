set_option maxRecDepth 100000
/-! LAYER 2: later, tone, mute -/
section
variable {τ τ' : XS} {s s' : MS} {N c a b : Int} {es fs : List Int} {ws vs : List (List Int)}
theorem only.sk1 (h : only [48, 60] s s') {j : Int} : s' 62 j = s 62 j := by rw [h 62 (by decide)]
theorem TH.wl {t : XS} {m : MS} (hT : TH τ s N es fs ws vs t m) : rwR t 99 := hT.2.2.1.1.1
def GVs (n : Int) (t : XS) (m : MS) : Prop := ∀ j : Int, 0 ≤ j → j < n → t (99 + 4) j = m 62 j
/-- some days, in thought -/
theorem th_days (n : Int) (F : Nat → Int → XS → Option (Int × XS)) (k : XS → Option (Int × XS)) (k2 : MS → Option (Int × MS)) (hF : ∀ f i t, 0 ≤ i → i < n → F (f + 1) i t = Option.bind (x7_passes 99 t) fun z => F f (i + 1) z.2) (hE : ∀ f t, F (f + 1) n t = k t) (hn : n ≤ 61) (h0 : s 48 0 + n ≤ 999) :
    ∀ (d : Nat) (i : Int) (t : XS) (m : MS) (f g : Nat), 0 ≤ i → i + d = n → d + 1 ≤ f → d + 1 ≤ g → TH τ s N es fs ws vs t m → m 48 0 = s 48 0 + i → ∃ t' m', F f i t = k t' ∧ m_daysGo_L2 k2 g n i m = k2 m' ∧ TH τ s N es fs ws vs t' m' ∧ (1 ≤ d ∨ GVs ws.length t m → GVs ws.length t' m') := by
  intro d
  induction d with
  | zero =>
    intro i t m f g hi hd hf hg hT h48
    have e : i = n := by omega
    rw [e]
    cases f with
    | zero => omega
    | succ f =>
      cases g with
      | zero => omega
      | succ g =>
        refine ⟨t, m, hE f t, ?_, hT, fun q => ?_⟩
        · rw [m_daysGo_L2]
          exact st_t (Int.le_refl _) rfl
        · rcases q with q | q
          · omega
          · exact q
  | succ d ih =>
    intro i t m f g hi hd hf hg hT h48
    cases f with
    | zero => omega
    | succ f =>
      cases g with
      | zero => omega
      | succ g =>
        obtain ⟨z, t1, m1, a1, a2, a3, a4, a5, a6, -, -⟩ := th_day hT (by omega)
        obtain ⟨t2, m2, b1, b2, b3, b4⟩ := ih (i + 1) t1 m1 f g (by omega) (by omega) (by omega) (by omega) a3 (by omega)
        refine ⟨t2, m2, ?_, ?_, b3, fun _ => b4 (Or.inr (fun j j0 j1 => (a4 j j0 j1).1))⟩
        · rw [hF f i t hi (by omega)]
          exact st_bind a1 b1
        · rw [m_daysGo_L2]
          exact st_f (by rw [i32_id (by omega) (by omega), i32_id (by omega) (by omega)]; omega) (st_bind a2 (st_bnd b2))
theorem ahead_n (h : INV τ s N es fs ws vs) {lo hi : Int} (hn : ¬ (i32 lo ≤ i32 a ∧ i32 a ≤ i32 hi)) : x0_isAhead a lo hi τ = some (0, τ) := by
  unfold x0_isAhead
  by_cases c1 : s 46 0 = 1
  · refine st_bind (isC_x h).1 (st_f (z1b c1) (st_bind (z := (0, τ)) ?_ (st_t i32_0 rfl)))
    unfold x0_is
    by_cases q : i32 a < i32 lo
    · exact st_t q rfl
    · exact st_f q (st_t (by omega) rfl)
  · exact st_bind (isC_x h).1 (st_t (z0b c1) rfl)
theorem CLs.later (h : INV τ s N es fs ws vs) (ha : rgI a) (hb : rgI b) : CL τ s (x0_later a b τ) (m_later a b s) := by
  have hn := h.le
  have hd := h.2.2.2.2.1.1.1
  have hd2 := h.2.2.2.2.1.2.2.2
  have m2 : m_isIn (i32 b) 0 60 s = some (b2i (decide (0 ≤ b ∧ b ≤ 60)), s) := by rw [hb.e]; exact isIn2_ev (b := 0) (c := 60) s hb ⟨by decide, by decide⟩ ⟨by decide, by decide⟩
  unfold x0_later m_later
  by_cases c1 : 0 ≤ a ∧ a < ws.length
  · by_cases c2 : 0 ≤ b ∧ b ≤ 60
    · have hb1 : rgI (b + 1) := by unfold rgI; omega
      have x3 := ahead_x h onQ.rf (lo := 1) (hi := 61) hb1 ⟨by decide, by decide⟩ ⟨by decide, by decide⟩
      have m3 := ahead_m h (lo := 1) (hi := 61) rfl rfl hb1 ⟨by decide, by decide⟩ ⟨by decide, by decide⟩
      by_cases c3 : s 46 0 = 1 ∧ (1 ≤ b + 1 ∧ b + 1 ≤ 61) ∧ s 48 0 + (b + 1) ≤ 999
      · obtain ⟨t, m, a1, a2, a3, a4, -⟩ := th_start h
        obtain ⟨t1, m1, b1, b2, b3, b4⟩ := th_days (τ := τ) (s := s) (N := N) (es := es) (fs := fs) (ws := ws) (vs := vs) (b + 1) (fun f i t => x0_later_L37 (fun (x1_19 : Int) (s20 : XS) => gd (ok 6 x1_19) <| some ((s20 103 (i32 x1_19)), s20)) f a b i t) (fun s20 => gd (ok 6 a) <| some ((s20 103 (i32 a)), s20)) (fun s10 => some (0, s10))
          (fun f i t q1 q2 => by rw [x0_later_L37]; exact st_f (by rw [hb.e, i32_id (by omega) (by omega)]; omega) rfl)
          (fun f t => by rw [x0_later_L37]; exact st_t (by rw [hb.e, i32_id (by omega) (by omega)]; omega) rfl) (by omega) (by omega) (b + 1).toNat 0 t m FU FU (by omega) (by omega) (by have := FU_ge; omega) (by have := FU_ge; omega) a3 (by rw [a4 0 (by omega)]; omega)
        obtain ⟨m2', d1, d2, d3, d4, d5⟩ := th_end b3
        have gv := b4 (Or.inl (by omega)) a c1.1 c1.2
        have oka : ok 6 a := by unfold ok; rw [ha.e]; omega
        refine h.qc2 (z := t1 103 a) (τ' := t1) (s' := m2') (st_bind (isSay_x h ha) (st_f (z1b c1) (st_bind x3 (st_f (z1b c3) (st_bind a1 (st_gd rfl (st_bnd (b1.trans (st_gd oka ?_)))))))))
          (st_bind (isSay_m h ha) (st_f (z1b c1) (st_bind m2 (st_f (z1b c2) (st_bind m3 (st_f (z1b c3) (st_bind a2 (st_bind (z := (0, m1)) ?_ (st_bind d1 (st_gd oka ?_))))))))))  b3.1.1 d3 d4 d5 b3.wl
        · rw [ha.e]
        · unfold m_daysGo; exact st_bnd b2
        · dsimp only
          rw [ha.e, d2.sk1]
          exact congrArg (fun v => some (v, m2')) gv.symm
      · exact h.same (z := -1) (st_bind (isSay_x h ha) (st_f (z1b c1) (st_bind x3 (st_t (z0b c3) rfl)))) (st_bind (isSay_m h ha) (st_f (z1b c1) (st_bind m2 (st_f (z1b c2) (st_bind m3 (st_t (z0b c3) rfl))))))
    · have x3 : x0_isAhead (b + 1) 1 61 τ = some (0, τ) := ahead_n h (by
        rw [show i32 1 = 1 by decide, show i32 61 = 61 by decide]
        unfold rgI at hb
        by_cases q : b = 2147483647
        · rw [q]; decide
        · rw [i32_id (by omega) (by omega)]; omega)
      exact h.same (z := -1) (st_bind (isSay_x h ha) (st_f (z1b c1) (st_bind x3 (st_t i32_0 rfl)))) (st_bind (isSay_m h ha) (st_f (z1b c1) (st_bind m2 (st_t (z0b c2) rfl))))
  · exact h.same (z := -1) (st_bind (isSay_x h ha) (st_t (z0b c1) rfl)) (st_bind (isSay_m h ha) (st_t (z0b c1) rfl))
theorem CLs.tone (h : INV τ s N es fs ws vs) (ha : rgI a) (hb : rgI b) : CL τ s (x0_tone a b τ) (m_tone a b s) := by
  have hn := h.le
  have hd := h.2.2.2.2.1.1.1
  have hd2 := h.2.2.2.2.1.2.2.2
  unfold x0_tone m_tone
  have x3 := ahead_x h onQ.rf (lo := 0) (hi := 60) hb ⟨by decide, by decide⟩ ⟨by decide, by decide⟩
  have m3 := ahead_m h (lo := 0) (hi := 60) rfl rfl hb ⟨by decide, by decide⟩ ⟨by decide, by decide⟩
  by_cases c1 : 0 ≤ a ∧ a < ws.length
  · by_cases c3 : s 46 0 = 1 ∧ (0 ≤ b ∧ b ≤ 60) ∧ s 48 0 + b ≤ 999
    · obtain ⟨t, m, a1, a2, a3, a4, -⟩ := th_start h
      obtain ⟨t1, m1, b1, b2, b3, b4⟩ := th_days (τ := τ) (s := s) (N := N) (es := es) (fs := fs) (ws := ws) (vs := vs) b (fun f i t => x0_tone_L35 (fun (x1_19 : Int) (s20 : XS) => gd (ok 6 x1_19) <| some ((s20 102 (i32 x1_19)), s20)) f a b i t) (fun s20 => gd (ok 6 a) <| some ((s20 102 (i32 a)), s20)) (fun s10 => some (0, s10))
          (fun f i t q1 q2 => by rw [x0_tone_L35]; exact st_f (by rw [hb.e, i32_id (by omega) (by omega)]; omega) rfl)
          (fun f t => by rw [x0_tone_L35]; exact st_t (Int.le_refl _) rfl) (by omega) (by omega) b.toNat 0 t m FU FU (by omega) (by omega) (by have := FU_ge; omega) (by have := FU_ge; omega) a3 (by rw [a4 0 (by omega)]; omega)
      obtain ⟨m2', d1, d2, d3, d4, d5⟩ := th_end b3
      have gv := ((b3.2.1.2.2.2.2.2 a c1.1 c1.2).2.2.1).1
      have oka : ok 6 a := by unfold ok; rw [ha.e]; omega
      have ii : i32 (8 + 10 * a + 2) = 8 + 10 * a + 2 := i32_id (by omega) (by omega)
      refine h.qc2 (z := t1 102 a) (τ' := t1) (s' := m2') (st_bind (isSay_x h ha) (st_f (z1b c1) (st_bind x3 (st_f (z1b c3) (st_bind a1 (st_gd rfl (st_bnd (b1.trans (st_gd oka ?_)))))))))
          (st_bind (isSay_m h ha) (st_f (z1b c1) (st_bind m3 (st_f (z1b c3) (st_bind a2 (st_bind (z := (0, m1)) ?_ (st_bind (z := (t1 102 a, m1)) ?_ (st_bnd (st_bind d1 rfl)))))))))  b3.1.1 d3 d4 d5 b3.wl
      · rw [ha.e]
      · unfold m_daysGo; exact st_bnd b2
      · unfold m_toneOf
        refine st_gd (by unfold ok; rw [ii]; omega) ?_
        dsimp only
        rw [ii]
        exact congrArg (fun v => some (v, m1)) gv.symm
    · exact h.same (z := -1) (st_bind (isSay_x h ha) (st_f (z1b c1) (st_bind x3 (st_t (z0b c3) rfl)))) (st_bind (isSay_m h ha) (st_f (z1b c1) (st_bind m3 (st_t (z0b c3) rfl))))
  · exact h.same (z := -1) (st_bind (isSay_x h ha) (st_t (z0b c1) rfl)) (st_bind (isSay_m h ha) (st_t (z0b c1) rfl))
end
