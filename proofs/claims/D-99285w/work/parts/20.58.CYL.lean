set_option maxRecDepth 100000
/-! LAYER 2: one statement of a country, both -/
section
variable {T : Int → Int} {n p q : Int} {τb τ τ' : XS} {s s' s0 : MS} {c : Int}
noncomputable def xBd (K : XS → Option RX) (s26 : XS) : Option RX :=
      gd (¬ (s26 7 6) = -1) <|
      gd (tg true s26 (s26 7 6) = 2) <|
      bnd (fun (w30 : Int) (s31 : XS) =>
          Option.bind (x2_most w30 (s31 7 2) s31) fun z32 =>
          if z32.1 = 0 then
          gd (¬ (z32.2.2 7 6) = -1) <|
          gd (tg true z32.2.2 (z32.2.2 7 6) = 2) <|
          gd (tg true z32.2.2 (z32.2.2 7 6) = 2) <|
          gd (0 ≤ (z32.2.2 7 6) ∧ ¬ (1438 ≤ (z32.2.2 7 6) ∧ (z32.2.2 7 6) < 1514)) <|
          bnd (ux z32.2.2 (z32.2.2 7 6) 0 ((z32.2.2 (z32.2.2 7 6) 0) + 1)) fun s38 =>
          Option.bind (x2_word_2 s38) fun z39 =>
          if z39.1 = 0 then
          bnd z39.2.1 fun x2_41 =>
          Option.bind (x2_named x2_41 (z39.2.2 7 3) z39.2.2) fun z42 =>
          if z42.1 = 0 then
          bnd (fun (s44 : XS) =>
              Option.bind (x2_must 59 s44) fun z45 =>
              if z45.1 = 0 then
              K z45.2.2
              else some (1, 0, z45.2.2)) fun j47 =>
          if i32 z42.2.1 = 0 then
            Option.bind (x2_more x2_41 (z42.2.2 7 3) z42.2.2) fun z49 =>
            if z49.1 = 0 then
            j47 z49.2.2
            else some (1, 0, z49.2.2)
          else
            j47 z42.2.2
          else some (1, 0, z42.2.2)
          else some (1, 0, z39.2.2)
          else some (1, 0, z32.2.2)) fun j51 =>
      if i32 (s26 (s26 7 6) 0) = i32 80 then
        j51 1 s26
      else
        j51 0 s26
theorem all_L60 (k : XS → Option RX) (f : Nat) (τ : XS) : x2_all_L60 k (f + 1) τ = Option.bind (x2_here τ) fun z26 => if i32 z26.1 = i32 (-1) then k z26.2 else xBd (x2_all_L60 k f) z26.2 := rfl
theorem m_takes_n (h : mG T n s p) (hp : rn qB T n p = p) {a : Nat} (ha : a ∈ wfs) (hw : hereW T n p (wo a) = false) : m_takes a s = some (0, s) := by
  unfold m_takes
  refine st_bind (m_isHere_id h hp ha) (st_t ?_ rfl)
  rw [hw]
  exact i32_0
theorem xN2_no (pl : Int) (τ : XS) : xN2 pl (-1) τ = some (0, 0, τ) := by
  have a0 : ¬ i32 (-1) = 0 := by decide
  have a1 : ¬ i32 (-1) = 1 := by decide
  have a2 : ¬ i32 (-1) = 2 := by decide
  unfold xN2
  exact st_f a0 (st_f a1 (st_f a2 rfl))
theorem xM2_no (pl : Int) (τ : XS) : xM2 pl (-1) τ = some (1, 0, ux (ux τ 8 6 1) 8 7 pl) := by
  have a0 : ¬ i32 (-1) = 0 := by decide
  have a1 : ¬ i32 (-1) = 1 := by decide
  have a2 : ¬ i32 (-1) = 2 := by decide
  have a3 : ¬ i32 (-1) = 3 := by decide
  unfold xM2
  exact st_f a0 (st_f a1 (st_f a2 (st_f a3 (st_bind (wrong_ev τ 1 pl) (st_gd rfl rfl)))))
/-- what both do with one statement -/
def ItR (T : Int → Int) (n : Int) (τb : XS) (c p : Int) (τ : XS) (s : MS) (X : (XS → Option RX) → Option RX) (M : Option (Int × MS)) : Prop :=
  (∃ τ' s' p' es fs ws vs, (∀ K, X K = K τ') ∧ M = some (0, s') ∧ LpI T n τb c p' τ' s' es fs ws vs ∧ stk s s' ∧ p < p' ∧ rmo (60 * (p' - p)) (500 * (p' - p)) τ τ') ∨
  (∃ τ' s', (∀ K, X K = some (1, 0, τ')) ∧ M = some (0, s') ∧ FlR T n τb (60 * (n - p) + 100) (500 * (n - p) + 600) τ s τ' s')
theorem ItR.fin {v r : Int} {τd : XS} {s1 : MS} {xe : Option RX} {me : Option (Int × MS)} {X : (XS → Option RX) → Option RX} {M : Option (Int × MS)} (hS : StR v T n τb c r τd s1 xe me) (hq : 0 ≤ q ∧ q < r ∧ r ≤ n) (hr : rmo 3 (4 + 2 * (r - q)) τ τd) (hst : stk s s1)
    (hX : ∀ K z, xe = some z → ((z.1 = 0 ∧ z.2.1 = v) ∨ z = (1, 0, z.2.2)) → X K = if z.1 = 0 then xMu K z.2.2 else some (1, 0, z.2.2)) (hM : ∀ y, me = some y → M = mSc y.2) : ItR T n τb c q τ s X M := by
  obtain ⟨z, y, s', h1, h2, h3, h4, h5⟩ := hS.end (by omega)
  rcases h5 with ⟨τ', p', es, fs, ws, vs, g1, g2, g3, g4, g5, g6⟩ | ⟨τ', g1, g2, kd, pl, g3, g4, ⟨g5, g6⟩, g7⟩
  · exact Or.inl ⟨τ', s', p', es, fs, ws, vs, fun K => by rw [hX K z h1 h3, if_pos g1]; exact g2 K, by rw [hM y h2]; exact h4, g3, hst.tr g4, by omega, (hr.tr g6).mono (by omega) (by omega)⟩
  · refine Or.inr ⟨τ', s', fun K => ?_, by rw [hM y h2]; exact h4, kd, pl, g3, (hr.tr g4).mono (by omega) (by omega), ⟨hst.tr g5, g6⟩, g7⟩
    rw [hX K z h1 h3]
    by_cases c0 : z.1 = 0
    · rw [if_pos c0]; exact g1 c0 K
    · rw [if_neg c0, g2 c0]
theorem ext.hs {τ0 : XS} {a : Int} (h : ext τ0 τ) (hk : ∀ y, y ≠ a → τ' y = τ y) (ha : τ0 (-1) 0 ≤ a) (h0 : 1514 ≤ a) : ext τ0 τ' := by
  obtain ⟨a1, a2, a3, a4⟩ := h
  refine ⟨by rw [hk (-1) (by omega)]; exact a1, fun i hi => by rw [hk (-1) (by omega)]; exact a2 i hi, fun y h1 h2 h3 h4 => by rw [hk y (by omega)]; exact a3 y h1 h2 h3 h4, fun i h1 h2 h3 => by rw [hk 7 (by omega)]; exact a4 i h1 h2 h3⟩
theorem al.hs {a : Int} (h : al τ) (hk : ∀ y, y ≠ a → τ' y = τ y) (h1 : τ' a (-1) = τ a (-1)) (h0 : 1514 ≤ a) : al τ' := by
  obtain ⟨a1, a2, a3⟩ := h
  refine ⟨by rw [hk (-1) (by omega)]; exact a1, by rw [hk (-1) (by omega)]; exact a2, fun y hy => ?_⟩
  rw [hk (-1) (by omega)] at hy
  by_cases e : y = a
  · rw [e, h1]; exact a3 a (by omega)
  · rw [hk y e]; exact a3 y hy
theorem CYR.d1 {es fs : List Int} {ws vs : List (List Int)} (h : CYR τ s c 0 es fs ws vs) (ha : al τ) (h80 : ¬ s 45 0 = 80) : CYR (ux τ c 0 (τ c 0 + 1)) s c 1 es fs ws vs := by
  refine h.wr ha (by decide) (fun k _ => rfl) h.2.2.2.2.2 ?_ ⟨h.2.2.2.2.1.1.wr h.1 (by decide) (fun k _ => rfl), h.2.2.2.2.1.2.1.wr h.1 (by decide) (fun k _ => rfl), h.2.2.2.2.1.2.2.wr h.1 (by decide) (fun k _ => rfl)⟩
  have f := h.2.2.2.1
  unfold cyF at *
  rw [ux_s, ux_i _ _ _ _ (by decide), ux_i _ _ _ _ (by decide), ux_i _ _ _ _ (by decide)]
  exact ⟨by omega, f.2⟩
theorem hereW_wd {w : List Int} (h1 : qL (bA T n q) = true) (h2 : pd T n q = false) : hereW T n q w = decide (wrd T n q = w) := by
  unfold hereW
  rw [h1, h2]
  rfl
theorem ma : ∀ a ∈ ([11, 14, 17, 18, 19, 20, 21] : List Nat), a ∈ wfs := by decide
/-- the reference finds no word of a statement -/
theorem m_st_no (h : mG T n s q) (hq : rn qB T n q = q) (h80 : ¬ s 45 0 = 80) (hb : 0 ≤ s 45 0 ∧ s 45 0 ≤ 80) (hw : ∀ a ∈ ([11, 14, 17, 18, 19, 20, 21] : List Nat), hereW T n q (wo a) = false) :
    ∃ s', m_statementTold s = some (0, s') ∧ stk s s' ∧ s' 5 0 = 1 ∧ s' 6 0 = q := by
  have t := fun a (ha : a ∈ ([11, 14, 17, 18, 19, 20, 21] : List Nat)) => m_takes_n h hq (ma a ha) (hw a ha)
  obtain ⟨s1, m1, m2⟩ := m_asks_f h (a := 21) (by decide) (by rw [hq]; exact hw 21 (by decide))
  rw [hq] at m2
  have o41 : ok 4 1 := by decide
  have z1 : i32 1 = 1 := by decide
  have g80 : ¬ i32 (s 45 0) = i32 80 := by rw [i32_id (by omega) (by omega), i32_id (by omega) (by omega)]; exact h80
  obtain ⟨s2, e2⟩ : ∃ s2, up s1 35 (i32 1) 0 = s2 := ⟨_, rfl⟩
  have f5 : s2 5 0 = 1 := by rw [← e2, up_row (by decide)]; exact m2.2.1
  have f6 : s2 6 0 = q := by rw [← e2, up_row (by decide)]; exact m2.2.2
  have st2 : stk s1 s2 := by rw [← e2, z1]; exact stk.wr (Or.inl ⟨rfl, by decide⟩)
  refine ⟨up s2 45 0 (s2 45 0 + 1), ?_, ((stk.of m2.1 (by decide)).tr st2).tr (stk.of (ks := [45]) (only.up (by decide)) (by decide)), by rw [up_row (by decide)]; exact f5, by rw [up_row (by decide)]; exact f6⟩
  unfold m_statementTold
  refine st_bnd (st_f g80 (st_bind (t 11 (by decide)) (st_bnd (st_t i32_0 (st_bind (t 14 (by decide)) (st_t i32_0 (st_bind (t 17 (by decide)) (st_t i32_0 (st_bind (t 18 (by decide)) (st_t i32_0 (st_bind (t 19 (by decide)) (st_t i32_0 (st_bind (t 20 (by decide)) (st_t i32_0 (st_bind m1 (st_bind (number_bad m2.2.1 (by decide)) (st_gd o41 (st_be e2 (st_bind (sign_bad f5 (by decide)) (st_bnd rfl))))))))))))))))))))
end
