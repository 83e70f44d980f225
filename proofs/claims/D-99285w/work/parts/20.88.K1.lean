set_option maxRecDepth 100000
/-! LAYER 2: what is only thought: tried of the system, put aside by the reference -/
section
variable {τ τ' : XS} {s s' : MS} {N c : Int} {es fs : List Int} {ws vs : List (List Int)}
theorem stR.cw {w w' : Int → Int} {n v : Int} (h : stR τ c w n v) (hw : ∀ j : Int, 0 ≤ j → w' j = w j) : stR τ c w' n v := by
  unfold stR
  rw [hw 0 (by omega)]
  refine ⟨h.1, ⟨h.2.1.1, h.2.1.2.1, fun o h0 h1 => by rw [hw _ (by omega)]; exact h.2.1.2.2 o h0 h1⟩, fun o h0 h1 => ?_⟩
  rw [hw _ (by omega), hw _ (by omega), hw _ (by omega)]
  refine ⟨(h.2.2 o h0 h1).1, (h.2.2 o h0 h1).2.1, (h.2.2 o h0 h1).2.2.1, fun u u0 u1 => ?_⟩
  rw [hw _ (by omega)]
  exact (h.2.2 o h0 h1).2.2.2 u u0 u1
theorem kpR.cw {w w' : Int → Int} (h : kpR τ c w) (hw : ∀ j : Int, 0 ≤ j → w' j = w j) : kpR τ c w' := by
  unfold kpR
  rw [hw 68 (by omega)]
  exact ⟨h.1, fun k i k0 k1 i0 i1 => by rw [hw _ (by omega)]; exact h.2 k i k0 k1 i0 i1⟩
def thk : List Nat := 48 :: 60 :: qfk
theorem INV.q2 (h : INV τ s N es fs ws vs) (hq : onQ τ τ') (ho : only thk s s') (h48 : ∀ j : Int, 0 ≤ j → s' 48 j = s 48 j) (h60 : s' 60 0 = 0) (hr : rwR τ' 99) : INV τ' s' N es fs ws vs := by
  -- by way of a state that has the field itself
  obtain ⟨s1, e1⟩ : ∃ s1 : MS, s1 = fun k => if k = 48 then s 48 else if k = 60 then s 60 else s' k := ⟨_, rfl⟩
  have o1 : only qfk s s1 := fun k hk => by
    rw [e1]
    dsimp only
    by_cases k1 : k = 48
    · rw [if_pos k1, k1]
    · by_cases k2 : k = 60
      · rw [if_neg k1, if_pos k2, k2]
      · rw [if_neg k1, if_neg k2]
        refine ho k (fun q => ?_)
        unfold thk at q
        rcases List.mem_cons.mp q with q | q
        · exact k1 q
        · rcases List.mem_cons.mp q with q | q
          · exact k2 q
          · exact hk q
  have q := h.q hq o1 hr
  have o2 : only [48, 60] s1 s' := fun k hk => by
    simp only [List.mem_cons, List.not_mem_nil, or_false, not_or] at hk
    rw [e1]
    dsimp only
    rw [if_neg hk.1, if_neg hk.2]
  have w48 : ∀ j : Int, 0 ≤ j → s' 48 j = s1 48 j := fun j hj => by rw [h48 j hj, e1]; rfl
  obtain ⟨⟨h1, h3, h4⟩, h5, ⟨h6, h7⟩, h8, ⟨h9, h10, h11, h12⟩, h13, h14, h15, h16, h17⟩ := q
  refine ⟨⟨h1, h3.of o2 (by decide), h60⟩, h5.kept rfl rfl (o2 0 (by decide)) (o2 1 (by decide)), ⟨?_, ?_⟩, h8.kp h1.1 ⟨Int.le_refl _, fun _ _ _ => rfl⟩ (stn.of o2 (by decide)), ⟨h9.cw w48, h10.cw w48, h11, by rw [w48 0 (by omega)]; exact h12⟩, h13, h14.kept (by have := h.le.1; omega) rfl (fun _ _ _ => rfl) (o2 69 (by decide)) (o2 70 (by decide)) (o2 71 (by decide)), h15.kept rfl (fun _ _ _ => rfl) (o2 64 (by decide)) (o2 65 (by decide)), ?_, h17.kept rfl rfl (o2 106 (by decide)) (o2 107 (by decide))⟩
  · unfold iFlt; rw [o2 7 (by decide), o2 8 (by decide)]; exact h6
  · unfold iRef; rw [o2 9 (by decide)]; exact h7
  · unfold iSed; rw [o2 72 (by decide)]; exact h16
theorem INV.qc2 (h : INV τ s N es fs ws vs) {X : Option (Int × XS)} {M : Option (Int × MS)} {z : Int} (hx : X = some (z, τ')) (hm : M = some (z, s')) (hq : onQ τ τ') (ho : only thk s s') (h48 : ∀ j : Int, 0 ≤ j → s' 48 j = s 48 j) (h60 : s' 60 0 = 0) (hr : rwR τ' 99) : CL τ s X M :=
  ⟨z, τ', s', N, es, fs, ws, vs, hx, hm, h.q2 hq ho h48 h60 hr, RM.rf (hq (-1) (by omega)) (ho 1 (by decide))⟩
theorem aside_ev : ∃ s', m_putsAside s = some (0, s') ∧ only [49, 60] s s' ∧ s' 60 0 = 1 ∧ ∀ j : Int, 0 ≤ j → j < 68 → s' 49 j = s 48 j := by
  obtain ⟨s1, e1⟩ : ∃ s1, up s 60 0 1 = s1 := ⟨_, rfl⟩
  obtain ⟨s', ⟨q1, q2⟩, q3⟩ := for0 (fun f i t => m_putsAside_L7 (fun (s11 : MS) => some (0, s11)) f i t) (fun (s11 : MS) => some (0, s11)) 68 (fun i t => only [49] s1 t ∧ ∀ j : Int, 0 ≤ j → j < i → t 49 j = s1 48 j) (by omega) (by omega)
    (fun i t hI h0 hi => by
      have ii : i32 i = i := i32_id (by omega) (by omega)
      refine ⟨up t 49 i (s1 48 i), ⟨hI.1.tr (only.up (by decide)), fun j j0 j1 => ?_⟩, fun f => ?_⟩
      · by_cases e : j = i
        · rw [e, up_s]
        · rw [up_i _ _ _ _ e]; exact hI.2 j j0 (by omega)
      · rw [m_putsAside_L7]
        refine st_f (by rw [ii, i32_id (by omega) (by omega)]; omega) (st_gd (by unfold ok; rw [ii]; omega) (st_gd (by unfold ok; rw [ii]; omega) (st_be (e' := up t 49 i (s1 48 i)) ?_ (st_bnd rfl))))
        rw [ii, hI.1 48 (by decide)])
    (fun t hI f => by
      rw [m_putsAside_L7]
      exact st_t (Int.le_refl _) rfl) s1 ⟨only.rf, fun j h0 h1 => by omega⟩
  have o1 : only [49, 60] s s1 := by rw [← e1]; exact only.up (by decide)
  refine ⟨s', ?_, o1.tr (q1.mono (by simp)), by rw [q1 60 (by decide), ← e1, up_s], fun j j0 j1 => by rw [q2 j j0 j1, ← e1, up_row (by decide)]⟩
  unfold m_putsAside
  exact st_be e1 (st_bnd q3)
theorem anew_ev : ∃ s', m_triesAnew s = some (0, s') ∧ only [48] s s' ∧ (∀ j : Int, 0 ≤ j → j < 68 → s' 48 j = s 49 j) ∧ ∀ j : Int, 68 ≤ j → s' 48 j = s 48 j := by
  obtain ⟨s', ⟨q1, q2, q4⟩, q3⟩ := for0 (fun f i t => m_triesAnew_L2 (fun (s10 : MS) => some (0, s10)) f i t) (fun (s10 : MS) => some (0, s10)) 68 (fun i t => only [48] s t ∧ (∀ j : Int, 0 ≤ j → j < i → t 48 j = s 49 j) ∧ ∀ j : Int, 68 ≤ j → t 48 j = s 48 j) (by omega) (by omega)
    (fun i t hI h0 hi => by
      have ii : i32 i = i := i32_id (by omega) (by omega)
      refine ⟨up t 48 i (s 49 i), ⟨hI.1.tr (only.up (by decide)), fun j j0 j1 => ?_, fun j hj => by rw [up_i _ _ _ _ (by omega)]; exact hI.2.2 j hj⟩, fun f => ?_⟩
      · by_cases e : j = i
        · rw [e, up_s]
        · rw [up_i _ _ _ _ e]; exact hI.2.1 j j0 (by omega)
      · rw [m_triesAnew_L2]
        refine st_f (by rw [ii, i32_id (by omega) (by omega)]; omega) (st_gd (by unfold ok; rw [ii]; omega) (st_gd (by unfold ok; rw [ii]; omega) (st_be (e' := up t 48 i (s 49 i)) ?_ (st_bnd rfl))))
        rw [ii, hI.1 49 (by decide)])
    (fun t hI f => by
      rw [m_triesAnew_L2]
      exact st_t (Int.le_refl _) rfl) s ⟨only.rf, fun j h0 h1 => by omega, fun _ _ => rfl⟩
  exact ⟨s', by unfold m_triesAnew; exact st_bnd q3, q1, q2, q4⟩
/-- while it is thought -/
def TH (τ : XS) (s : MS) (N : Int) (es fs : List Int) (ws vs : List (List Int)) (t : XS) (m : MS) : Prop := (onQ τ t ∧ only thk s m) ∧ RLc t m N 99 es fs ws vs ∧ STk t m 99 ∧ m 60 0 = 1 ∧ (∀ j : Int, 0 ≤ j → j < 68 → m 49 j = s 48 j) ∧ ∀ j : Int, 68 ≤ j → m 48 j = s 48 j
theorem INV.alq (h : INV τ s N es fs ws vs) (hq : onQ τ τ') : al τ' := by
  have h1 := h.1.1.1
  have eN : τ' (-1) = τ (-1) := hq (-1) (by omega)
  refine ⟨by rw [eN]; exact h1.1, by rw [eN]; exact h1.2.1, fun y hy => ?_⟩
  rw [eN] at hy
  rw [hq y (by have := h1.1; omega)]
  exact h1.2.2 y hy
theorem INV.kpq (hq : onQ τ τ') : kps τ τ' := ⟨by rw [hq (-1) (by omega)]; exact Int.le_refl _, fun y hy _ => hq y (by unfold fre at hy; omega)⟩
theorem apt99 : apt 99 36 := Or.inr (by decide)
/-- tried is what now is -/
theorem copy99 (h : INV τ s N es fs ws vs) {t : XS} (hq : onQ τ t) (hr : rwR t 99) : ∃ t', x7_copy 99 36 t = some (99, t') ∧ onQ τ t' ∧ cpR t 99 36 t' := by
  have e36 : ∀ y, 36 ≤ y → y ≤ 36 + 62 → t y = τ y := fun y a b => hq y (by omega)
  have hk := h.2.2.2.2.1.2.1.1
  obtain ⟨t', a1, a2⟩ := stcp_ev st99 st36 apt99 t hr (h.2.2.2.2.1.2.2.1.kept (e36 _ (by omega) (by omega))) (by rw [e36 36 (by omega) (by omega)]; omega)
  exact ⟨t', a1, hq.tr (fun y hy => a2.1 y (by omega)), a2⟩
theorem th_of (h : INV τ s N es fs ws vs) {t0 t : XS} {m : MS} (hq0 : onQ τ t0) (hr0 : rwR t0 99) (hq : onQ τ t) (hc : cpR t0 99 36 t) (ho : only thk s m) (h60 : m 60 0 = 1) (h49 : ∀ j : Int, 0 ≤ j → j < 68 → m 49 j = s 48 j) (h48 : ∀ j : Int, 0 ≤ j → m 48 j = s 48 j) : TH τ s N es fs ws vs t m := by
  have e36 : ∀ y, 36 ≤ y → y ≤ 36 + 62 → t0 y = τ y := fun y a b => hq0 y (by omega)
  have hk := h.2.2.2.2.1.2.1.1
  have hn := h.le
  refine ⟨⟨hq, ho⟩, ⟨h.alq hq, ?_, st99, ?_⟩, ⟨⟨hc.rows hr0, ?_⟩, Or.inr h60, fun q => by omega⟩, h60, h49, fun j hj => h48 j (by omega)⟩
  · rw [hq 0 (by omega)]
    exact h.2.2.2.1.kp h.1.1.1 (INV.kpq hq) (stn.of ho (by decide))
  · exact (hc.st (by omega) (by omega) (h.2.2.2.2.1.1.cl (by omega) e36)).cw h48
  · rw [hc.2.1.2.2, e36 36 (by omega) (by omega)]; omega
theorem th_start (h : INV τ s N es fs ws vs) : ∃ t m, x7_copy 99 36 τ = some (99, t) ∧ m_putsAside s = some (0, m) ∧ TH τ s N es fs ws vs t m ∧ (∀ j : Int, 0 ≤ j → m 48 j = s 48 j) ∧ t (99 + 4) = τ (99 + 4) := by
  obtain ⟨t, a1, a2, a3⟩ := copy99 h onQ.rf h.2.2.2.2.2.1
  obtain ⟨m, b1, b2, b3, b4⟩ := aside_ev (s := s)
  have e48 : ∀ j : Int, 0 ≤ j → m 48 j = s 48 j := fun j _ => by rw [b2 48 (by decide)]
  exact ⟨t, m, a1, b1, th_of h onQ.rf h.2.2.2.2.2.1 a2 a3 (b2.mono (by unfold thk qfk; intro k; simp; omega)) b3 b4 e48, e48, a3.2.2.2.2.2⟩
/-- once more, from what is -/
theorem th_anew (h : INV τ s N es fs ws vs) {t : XS} {m : MS} (hT : TH τ s N es fs ws vs t m) : ∃ t' m', x7_copy 99 36 t = some (99, t') ∧ m_triesAnew m = some (0, m') ∧ TH τ s N es fs ws vs t' m' ∧ (∀ j : Int, 0 ≤ j → m' 48 j = s 48 j) ∧ only [48] m m' := by
  obtain ⟨⟨q1, q2⟩, q3, q4, q5, q6, q7⟩ := hT
  obtain ⟨t', a1, a2, a3⟩ := copy99 h q1 q4.1.1
  obtain ⟨m', b1, b2, b3, b4⟩ := anew_ev (s := m)
  have e48 : ∀ j : Int, 0 ≤ j → m' 48 j = s 48 j := fun j hj => by
    by_cases c : j < 68
    · rw [b3 j hj c, q6 j hj c]
    · rw [b4 j (by omega), q7 j (by omega)]
  exact ⟨t', m', a1, b1, th_of h q1 q4.1.1 a2 a3 (q2.tr (b2.mono (by unfold thk qfk; intro k; simp; omega))) (by rw [b2 60 (by decide)]; exact q5) (fun j j0 j1 => by rw [b2 49 (by decide)]; exact q6 j j0 j1) e48, e48, b2⟩
theorem th_day {t : XS} {m : MS} (hT : TH τ s N es fs ws vs t m) (hd : m 48 0 ≤ 4999) : ∃ z t' m', x7_passes 99 t = some (z, t') ∧ m_dayGoes m = some (0, m') ∧ TH τ s N es fs ws vs t' m' ∧ (∀ j : Int, 0 ≤ j → j < ws.length → t' (99 + 4) j = m' 62 j ∧ -1 ≤ m' 62 j ∧ m' 62 j ≤ 6) ∧ (0 ≤ z ∧ z ≤ 6 ∧ m' 61 0 = m 61 0 + z) ∧ m' 48 0 = m 48 0 + 1 ∧ only dyk m m' ∧ onD 99 t t' := by
  obtain ⟨⟨q1, q2⟩, q3, q4, q5, q6, q7⟩ := hT
  obtain ⟨z, t', m', a1, a2, ⟨a3, a4⟩, a5, a6, a7, a8, a9, a10, a11⟩ := day_ok q3 q4 hd
  refine ⟨z, t', m', a1, a2, ⟨⟨q1.tr (onQ.od a3), q2.tr (a4.mono (by unfold thk qfk dyk; intro k; simp; omega))⟩, a5, a6, by rw [a4 60 (by decide)]; exact q5, fun j j0 j1 => by rw [a4 49 (by decide)]; exact q6 j j0 j1, fun j hj => by rw [a11 q5 j hj]; exact q7 j hj⟩, a7, a8, a9, a4, a3⟩
theorem th_end {t : XS} {m : MS} (hT : TH τ s N es fs ws vs t m) : ∃ m', m_takesBack m = some (0, m') ∧ only [48, 60] m m' ∧ only thk s m' ∧ (∀ j : Int, 0 ≤ j → m' 48 j = s 48 j) ∧ m' 60 0 = 0 := by
  obtain ⟨⟨q1, q2⟩, q3, q4, q5, q6, q7⟩ := hT
  obtain ⟨m1, b1, b2, b3, b4⟩ := anew_ev (s := m)
  have o1 : only [48, 60] m (up m1 60 0 0) := (b2.mono (by simp)).tr (only.up (by decide))
  refine ⟨up m1 60 0 0, ?_, o1, q2.tr (o1.mono (by unfold thk qfk; intro k; simp; omega)), fun j hj => ?_, by rw [up_s]⟩
  · unfold m_takesBack
    exact st_bind b1 (st_bnd rfl)
  · rw [up_row (by decide)]
    by_cases c : j < 68
    · rw [b3 j hj c, q6 j hj c]
    · rw [b4 j (by omega), q7 j (by omega)]
/-- ahead -/
theorem ahead_x (h : INV τ s N es fs ws vs) {t : XS} (hq : onQ τ t) {a lo hi : Int} (ha : rgI a) (hlo : 0 ≤ lo ∧ lo ≤ 1000) (hhi : 0 ≤ hi ∧ hi ≤ 1000) : x0_isAhead a lo hi t = some (b2i (decide (s 46 0 = 1 ∧ (lo ≤ a ∧ a ≤ hi) ∧ s 48 0 + a ≤ 999)), t) := by
  obtain ⟨⟨⟨c0, ct⟩, -, -⟩, -, ⟨-, -, d3, d4⟩, -⟩ := h.2.2.2.1
  have e0 : t 0 = τ 0 := hq 0 (by omega)
  have ec : t (τ 0 0) = τ (τ 0 0) := hq _ (by have := c0.1; unfold dyn at this; omega)
  have hd := h.2.2.2.2.1.1.1
  have hd2 := h.2.2.2.2.1.2.2.2
  have e36 : t 36 0 = s 48 0 := by rw [hq 36 (by omega)]; exact hd.1
  have x1 : x0_isCountry t = some (b2i (decide (s 46 0 = 1)), t) := by
    unfold x0_isCountry
    rw [e0, ec]
    refine st_gd (dyn_ne c0.1) (st_gd (tgd c0.1 (by rw [ec]; exact ct)) ?_)
    rw [i32_id (by omega) (by omega)]
    rcases d4 with ⟨q1, q2, -⟩ | ⟨q1, q2⟩
    · rw [if_pos (by omega), b2i_n (by omega)]
    · rw [if_neg (by omega), b2i_c q1]
  have x2 := is2_ev t ha (b := lo) (c := hi) ⟨by omega, by omega⟩ ⟨by omega, by omega⟩
  unfold x0_isAhead
  by_cases c1 : s 46 0 = 1
  · by_cases c2 : lo ≤ a ∧ a ≤ hi
    · refine st_bind x1 (st_f (z1b c1) (st_bind x2 (st_f (z1b c2) ?_)))
      have e : (i32 999 < i32 (t 36 0 + a)) ↔ 999 < s 48 0 + a := by rw [e36, show i32 999 = 999 by decide, i32_id (by omega) (by omega)]
      by_cases c3 : 999 < s 48 0 + a
      · rw [b2i_n (fun q : s 46 0 = 1 ∧ (lo ≤ a ∧ a ≤ hi) ∧ s 48 0 + a ≤ 999 => by omega)]; exact st_t (e.mpr c3) rfl
      · rw [b2i_c (show s 46 0 = 1 ∧ (lo ≤ a ∧ a ≤ hi) ∧ s 48 0 + a ≤ 999 from ⟨c1, c2, by omega⟩)]; exact st_f (fun q => c3 (e.mp q)) rfl
    · rw [b2i_n (fun q => c2 q.2.1)]
      exact st_bind x1 (st_f (z1b c1) (st_bind x2 (st_t (z0b c2) rfl)))
  · rw [b2i_n (fun q => c1 q.1)]
    exact st_bind x1 (st_t (z0b c1) rfl)
theorem ahead_m (h : INV τ s N es fs ws vs) {m : MS} (e46 : m 46 = s 46) (e48 : m 48 0 = s 48 0) {a lo hi : Int} (ha : rgI a) (hlo : 0 ≤ lo ∧ lo ≤ 1000) (hhi : 0 ≤ hi ∧ hi ≤ 1000) : m_isAhead a lo hi m = some (b2i (decide (s 46 0 = 1 ∧ (lo ≤ a ∧ a ≤ hi) ∧ s 48 0 + a ≤ 999)), m) := by
  obtain ⟨-, h46⟩ := isC_x h
  have hd := h.2.2.2.2.1.1.1
  have hd2 := h.2.2.2.2.1.2.2.2
  have x2 : m_isIn (i32 a) (i32 lo) (i32 hi) m = some (b2i (decide (lo ≤ a ∧ a ≤ hi)), m) := by
    rw [ha.e, i32_id (by omega) (by omega), i32_id (by omega) (by omega)]
    exact isIn2_ev m ha ⟨by omega, by omega⟩ ⟨by omega, by omega⟩
  unfold m_isAhead
  by_cases c1 : s 46 0 = 1
  · have n46 : ¬ i32 (m 46 0) = 0 := by rw [e46, c1]; exact n10
    by_cases c2 : lo ≤ a ∧ a ≤ hi
    · refine st_f n46 (st_bind x2 (st_f (z1b c2) (st_gd (by decide) ?_)))
      have e : (i32 999 < i32 (m 48 (i32 0) + a)) ↔ 999 < s 48 0 + a := by rw [i32_0, e48, show i32 999 = 999 by decide, i32_id (by omega) (by omega)]
      by_cases c3 : 999 < s 48 0 + a
      · rw [b2i_n (fun q : s 46 0 = 1 ∧ (lo ≤ a ∧ a ≤ hi) ∧ s 48 0 + a ≤ 999 => by omega)]; exact st_t (e.mpr c3) rfl
      · rw [b2i_c (show s 46 0 = 1 ∧ (lo ≤ a ∧ a ≤ hi) ∧ s 48 0 + a ≤ 999 from ⟨c1, c2, by omega⟩)]; exact st_f (fun q => c3 (e.mp q)) rfl
    · rw [b2i_n (fun q => c2 q.2.1)]
      exact st_f n46 (st_bind x2 (st_t (z0b c2) rfl))
  · rw [b2i_n (fun q => c1 q.1)]
    exact st_t (by rw [e46, show s 46 0 = 0 by omega]; exact i32_0) rfl
end
