set_option maxRecDepth 100000
/-! LAYER 2: the system's chains, as they grow -/
def rg (a b x : Int) : Prop := a ≤ x ∧ x < b
section
variable {τ τ' : XS}
theorem newList_ev (ha : al τ) {k : Int} (hk : 2 ≤ k ∧ k ≤ 100) : ∃ τ', j2_init true (τ (-1) 0) k (nwx τ 21 0 3 (dfl 21)) = some (0, τ') ∧ al τ' ∧ (∀ y, y ≠ -1 → y < τ (-1) 0 → τ' y = τ y) ∧ τ' (-1) 0 = τ (-1) 0 + 2 ∧ τ' (-1) 1 = τ (-1) 1 + 3 + k ∧ (∀ i, 2 ≤ i → τ' (-1) i = τ (-1) i) ∧ τ' (τ (-1) 0) (-1) = 21 ∧ τ' (τ (-1) 0) 1 = τ (-1) 0 + 1 ∧ τ' (τ (-1) 0) 2 = 0 ∧ τ' (τ (-1) 0 + 1) (-1) = 110 ∧ τ' (τ (-1) 0 + 1) (-2) = k := by
  have hN := ha.1
  have hS := ha.2.1
  obtain ⟨s3, n1, n2, n3, n4, n5, n6, n7, n8, n9⟩ := nwx_all ha 21 0 (sl := 3) (dfl 21) (by omega)
  obtain ⟨s4, e4⟩ : ∃ s, ux s3 (τ (-1) 0) 0 0 = s := ⟨_, rfl⟩
  have al4 : al s4 := by rw [← e4]; exact n2.u (by omega) (by omega)
  have f4 : ∀ c, c ≠ τ (-1) 0 → s4 c = s3 c := fun c hc => by rw [← e4]; exact ux_cell hc
  have fN : s4 (-1) = s3 (-1) := f4 _ (by omega)
  obtain ⟨s7, m1, m2, m3, m4, m5, m6, m7, m8, m9⟩ := nwx_all al4 110 k (sl := k) (fun _ => -1) (by omega)
  rw [fN, n7] at m4 m5 m6 m7 m9
  have g3 := tgf (τ := s3) (t := 21) (new_fre hN) n4
  have e7 : s7 (τ (-1) 0) = s4 (τ (-1) 0) := m9 _ (by omega) (by omega)
  have g7 := tgf (τ := s7) (t := 21) (new_fre hN) (by rw [e7, ← e4, ux_i _ _ _ _ (by decide)]; exact n4)
  have nN := fre_nf (new_fre (show 1514 ≤ τ (-1) 0 + 1 by omega))
  have nn : 0 ≤ s4 (-1) 0 ∧ 0 ≤ s4 (-1) 1 := by rw [fN, n7, n8]; omega
  refine ⟨ux s7 (τ (-1) 0) 1 (τ (-1) 0 + 1), ?_, m2.u (by omega) (by omega), ?_, ?_, ?_, ?_, ?_, ?_, ?_, ?_, ?_⟩
  · unfold j2_init j1_init j0_init
    simp (disch := omega) only [gd_t, gd_T, gd_ok, not_false_eq_true, eq_self, bnd_r, bind_s, ite_t, ite_n, ite_T, ite_F, i32_id, n1, g3, e4, gd_t nn, m1, g7, fN, n7, nN]
  · intro y y1 y2
    rw [ux_cell (by omega), m9 y (by omega) y1, f4 y (by omega), n9 y (by omega) y1]
  · rw [ux_cell (by omega), m7]; omega
  · rw [ux_cell (by omega), m8, fN, n8]
  · intro i hi
    rw [ux_cell (by omega), m3.2.1 i hi, fN, n3.2.1 i hi]
  · rw [ux_i _ _ _ _ (by decide), e7, ← e4, ux_i _ _ _ _ (by decide)]; exact n4
  · rw [ux_s]
  · rw [ux_i _ _ _ _ (by decide), e7, ← e4, ux_i _ _ _ _ (by decide), n6 2 (by decide)]; decide
  · rw [ux_cell (by omega)]; exact m4
  · rw [ux_cell (by omega)]; exact m5
theorem newSb_ev (ha : al τ) : ∃ τ', j15_init true (τ (-1) 0) (nwx τ 23 0 4 (dfl 23)) = some (0, τ') ∧ al τ' ∧ (∀ y, y ≠ -1 → y < τ (-1) 0 → τ' y = τ y) ∧ τ' (-1) 0 = τ (-1) 0 + 2 ∧ τ' (-1) 1 = τ (-1) 1 + 20 ∧ (∀ i, 2 ≤ i → τ' (-1) i = τ (-1) i) ∧ τ' (τ (-1) 0) (-1) = 23 ∧ τ' (τ (-1) 0) 0 = τ (-1) 0 + 1 ∧ τ' (τ (-1) 0) 1 = 0 ∧ τ' (τ (-1) 0) 3 = 0 ∧ τ' (τ (-1) 0 + 1) (-1) = 102 ∧ τ' (τ (-1) 0 + 1) (-2) = 16 := by
  have hN := ha.1
  have hS := ha.2.1
  obtain ⟨s3, n1, n2, n3, n4, n5, n6, n7, n8, n9⟩ := nwx_all ha 23 0 (sl := 4) (dfl 23) (by omega)
  obtain ⟨s7, m1, m2, m3, m4, m5, m6, m7, m8, m9⟩ := nwx_all n2 102 16 (sl := 16) (fun _ => 0) (by omega)
  rw [n7] at m4 m5 m6 m7 m9
  have e7 : s7 (τ (-1) 0) = s3 (τ (-1) 0) := m9 _ (by omega) (by omega)
  have g7 := tgf (τ := s7) (t := 23) (new_fre hN) (by rw [e7]; exact n4)
  have nN := fre_nf (new_fre (show 1514 ≤ τ (-1) 0 + 1 by omega))
  have nn : 0 ≤ s3 (-1) 0 ∧ 0 ≤ s3 (-1) 1 := by rw [n7, n8]; omega
  obtain ⟨s9, e9⟩ : ∃ s, ux s7 (τ (-1) 0) 0 (τ (-1) 0 + 1) = s := ⟨_, rfl⟩
  have g9 := tgf (τ := s9) (t := 23) (new_fre hN) (by rw [← e9, ux_i _ _ _ _ (by decide), e7]; exact n4)
  have z : i8 0 = 0 := by decide
  refine ⟨ux s9 (τ (-1) 0) 1 0, ?_, ?_, ?_, ?_, ?_, ?_, ?_, ?_, ?_, ?_, ?_, ?_⟩
  · unfold j15_init j14_init
    simp (disch := omega) only [gd_t, gd_T, gd_ok, not_false_eq_true, eq_self, bnd_r, bind_s, ite_t, ite_n, ite_T, ite_F, i32_id, n1, gd_t nn, m1, g7, n7, nN, e9, g9, z]
  · have : al s9 := by rw [← e9]; exact m2.u (by omega) (by omega)
    exact this.u (by omega) (by omega)
  · intro y y1 y2
    rw [ux_cell (by omega), ← e9, ux_cell (by omega), m9 y (by omega) y1, n9 y (by omega) y1]
  · rw [ux_cell (by omega), ← e9, ux_cell (by omega), m7]; omega
  · rw [ux_cell (by omega), ← e9, ux_cell (by omega), m8, n8]; omega
  · intro i hi
    rw [ux_cell (by omega), ← e9, ux_cell (by omega), m3.2.1 i hi, n3.2.1 i hi]
  · rw [ux_i _ _ _ _ (by decide), ← e9, ux_i _ _ _ _ (by decide), e7]; exact n4
  · rw [ux_i _ _ _ _ (by decide), ← e9, ux_s]
  · rw [ux_s]
  · rw [ux_i _ _ _ _ (by decide), ← e9, ux_i _ _ _ _ (by decide), e7, n6 3 (by decide)]; decide
  · rw [ux_cell (by omega), ← e9, ux_cell (by omega)]; exact m4
  · rw [ux_cell (by omega), ← e9, ux_cell (by omega)]; exact m5
/-- the cells of a chain's parts, none of its own -/
def chn (τ : XS) (N0 c x : Int) : Prop := (N0 ≤ x ∧ x < τ (-1) 0) ∧ x ≠ c ∧ x ≠ τ c 0 ∧ x ≠ τ (τ c 0) 1 ∧ x ≠ τ c 1 ∧ x ≠ τ (τ c 1) 0
/-- a chain as it grows: parts es with codes css, signs sg; all its cells from N0 on -/
def CH (τ : XS) (N0 : Int) (fl : Bool) (d : Nat) (c : Int) (es sg : List Int) (css : List (List Int)) : Prop :=
  (rg N0 (τ (-1) 0) c ∧ τ c (-1) = 14) ∧ lstX τ (rg N0 (τ (-1) 0)) (τ c 0) es ∧ sbdX τ (rg N0 (τ (-1) 0)) (τ c 1) sg ∧ ((2 ≤ τ (τ (τ c 0) 1) (-2) ∧ τ (τ (τ c 0) 1) (-2) ≤ 2 * es.length + 4) ∧ 16 ≤ τ (τ (τ c 1) 0) (-2) ∧ τ (τ (τ c 1) 0) (-2) ≤ 2 * sg.length + 16) ∧ (es.length = sg.length ∧ css.length = es.length) ∧ (∀ x ∈ sg, x = 43 ∨ x = 45 ∨ x = 42 ∨ x = 47) ∧ ∀ (i : Nat) (x : Int) (ds : List Int), es[i]? = some x → css[i]? = some ds → XV τ (chn τ N0 c) fl d x ds
/-- what its arrays have cost at most -/
def pot (τ : XS) (c : Int) : Int := 4 * τ (τ (τ c 0) 1) (-2) + 2 * τ (τ (τ c 1) 0) (-2)
theorem newChain_ev (ha : al τ) (fl : Bool) (d : Nat) : ∃ τ', x17_init true (τ (-1) 0) (nwx τ 14 0 2 (dfl 14)) = some (0, τ') ∧ ext τ τ' ∧ al τ' ∧ CH τ' (τ (-1) 0) fl d (τ (-1) 0) [] [] [] ∧ τ' 7 = τ 7 ∧ τ' 8 = τ 8 ∧ τ' (-1) 0 = τ (-1) 0 + 5 ∧ τ' (-1) 1 = τ (-1) 1 + 27 ∧ pot τ' (τ (-1) 0) = 40 := by
  have hN := ha.1
  have hS := ha.2.1
  obtain ⟨s2, n1, n2, n3, n4, n5, n6, n7, n8, n9⟩ := nwx_all ha 14 0 (sl := 2) (dfl 14) (by omega)
  obtain ⟨s4, a1, a2, a3, a4, a5, a6, a7, a8, a9, a10, a11⟩ := newList_ev n2 (k := 2) (by omega)
  rw [n7] at a1 a3 a4 a7 a8 a9 a10 a11
  obtain ⟨s8, e8⟩ : ∃ s, ux s4 (τ (-1) 0) 0 (τ (-1) 0 + 1) = s := ⟨_, rfl⟩
  have al8 : al s8 := by rw [← e8]; exact a2.u (by omega) (by omega)
  have f8 : ∀ c, c ≠ τ (-1) 0 → s8 c = s4 c := fun c hc => by rw [← e8]; exact ux_cell hc
  obtain ⟨s11, b1, b2, b3, b4, b5, b6, b7, b8, b9, b10, b11, b12⟩ := newSb_ev al8
  rw [f8 (-1) (by omega), a4] at b1 b3 b4 b7 b8 b9 b10 b11 b12
  rw [f8 (-1) (by omega)] at b5 b6
  have g2 := tgf (τ := s4) (t := 14) (new_fre hN) (by rw [a3 _ (by omega) (by omega)]; exact n4)
  have e11 : s11 (τ (-1) 0) = s8 (τ (-1) 0) := b3 _ (by omega) (by omega)
  have g11 := tgf (τ := s11) (t := 14) (new_fre hN) (by rw [e11, ← e8, ux_i _ _ _ _ (by decide), a3 _ (by omega) (by omega)]; exact n4)
  have nn1 : 0 ≤ s2 (-1) 0 ∧ 0 ≤ s2 (-1) 1 := by rw [n7, n8]; omega
  have nn2 : 0 ≤ s8 (-1) 0 ∧ 0 ≤ s8 (-1) 1 := by rw [f8 (-1) (by omega), a4, a5, n8]; omega
  have q1 := fre_nf (new_fre (show 1514 ≤ τ (-1) 0 + 1 by omega))
  have q2 := fre_nf (new_fre (show 1514 ≤ τ (-1) 0 + 1 + 2 by omega))
  obtain ⟨t, et⟩ : ∃ s, ux s11 (τ (-1) 0) 1 (τ (-1) 0 + 1 + 2) = s := ⟨_, rfl⟩
  have ft : ∀ c, c ≠ τ (-1) 0 → t c = s11 c := fun c hc => by rw [← et]; exact ux_cell hc
  have t0 : t (τ (-1) 0) 0 = τ (-1) 0 + 1 := by rw [← et, ux_i _ _ _ _ (by decide), e11, ← e8, ux_s]
  have t1 : t (τ (-1) 0) 1 = τ (-1) 0 + 1 + 2 := by rw [← et, ux_s]
  have tN : t (-1) 0 = τ (-1) 0 + 5 := by rw [ft _ (by omega), b4]; omega
  have c1 : t (τ (-1) 0 + 1) = s4 (τ (-1) 0 + 1) := by rw [ft _ (by omega), b3 _ (by omega) (by omega), f8 _ (by omega)]
  have c2 : t (τ (-1) 0 + 1 + 1) = s4 (τ (-1) 0 + 1 + 1) := by rw [ft _ (by omega), b3 _ (by omega) (by omega), f8 _ (by omega)]
  have c3 : t (τ (-1) 0 + 1 + 2) = s11 (τ (-1) 0 + 1 + 2) := ft _ (by omega)
  have c4 : t (τ (-1) 0 + 1 + 2 + 1) = s11 (τ (-1) 0 + 1 + 2 + 1) := ft _ (by omega)
  have low : ∀ y, y ≠ -1 → y < τ (-1) 0 → t y = τ y := fun y y1 y2 => by rw [ft y (by omega), b3 y y1 (by omega), f8 y (by omega), a3 y y1 (by omega), n9 y (by omega) y1]
  refine ⟨t, ?_, ?_, ?_, ?_, ?_, ?_, ?_, ?_, ?_⟩
  · unfold x17_init x16_init
    simp (disch := omega) only [gd_t, gd_T, gd_ok, not_false_eq_true, eq_self, bnd_r, bind_s, ite_t, ite_n, ite_T, ite_F, i32_id, n1, gd_t nn1, n7, a1, g2, q1, e8, gd_t nn2, f8 (-1) (show (-1 : Int) ≠ τ (-1) 0 by omega), a4, b1, g11, q2, et]
  · refine ⟨⟨by omega, by rw [ft _ (by omega), b5, a5, n8]; omega⟩, fun i hi => by rw [ft _ (by omega), b6 i hi, a6 i hi, n3.2.1 i hi], fun c d1 d2 d3 d4 => low c d1 d4, fun i d1 d2 d3 => by rw [low 7 (by omega) (by omega)]⟩
  · rw [← et]; exact b2.u (by omega) (by omega)
  · unfold CH rg
    rw [t0, t1, tN, c1, c3, a8, b8, c2, c4]
    refine ⟨⟨by omega, by rw [← et, ux_i _ _ _ _ (by decide), e11, ← e8, ux_i _ _ _ _ (by decide), a3 _ (by omega) (by omega)]; exact n4⟩, ?_, ?_, ?_, ⟨rfl, rfl⟩, (fun x hx => by cases hx), (fun i x ds hi => by cases hi)⟩
    · unfold lstX
      rw [c1, a8, c2]
      exact ⟨⟨by omega, a7⟩, ⟨by omega, a10⟩, a9, by rw [a11]; simp, by rw [a11]; omega, fun i x hi => by cases hi⟩
    · unfold sbdX
      rw [c3, b8, c4]
      exact ⟨⟨by omega, b7⟩, b9, ⟨by omega, b11⟩, b10, by rw [b12]; simp, by rw [b12]; omega, fun i x hi => by cases hi⟩
    · rw [a11, b12]; simp
  · exact low 7 (by omega) (by omega)
  · exact low 8 (by omega) (by omega)
  · exact tN
  · rw [ft _ (by omega), b5, a5, n8]; omega
  · unfold pot
    rw [t0, t1, c1, c3, a8, b8, c2, c4, a11, b12]; rfl
theorem XV_tag {S : Int → Prop} {fl : Bool} {n : Nat} {c : Int} {cs : List Int} (h : XV τ S fl n c cs) : 0 < τ c (-1) ∧ τ c (-1) < 100 := by
  cases n with
  | zero => cases h
  | succ n =>
    obtain ⟨-, h⟩ := h
    rcases h with h | h | h | h | h <;> rw [h.1] <;> decide
theorem CH.keep {N0 : Int} (hN0 : 1514 ≤ N0) {fl : Bool} {d : Nat} {c : Int} {es sg : List Int} {css : List (List Int)} (h : CH τ N0 fl d c es sg css) (he : ext τ τ') : CH τ' N0 fl d c es sg css ∧ pot τ' c = pot τ c := by
  obtain ⟨⟨⟨h1, h1'⟩, h2⟩, h3, h4, h5, h6, h7, h8⟩ := h
  have hd : ∀ y, rg N0 (τ (-1) 0) y → τ' y = τ y := fun y hy => by unfold rg at hy; exact he.2.2.1 y (by omega) (by omega) (by omega) hy.2
  have hN := he.1.1
  have hm : ∀ y, rg N0 (τ (-1) 0) y → rg N0 (τ' (-1) 0) y := fun y hy => by unfold rg at *; omega
  have e1 : τ' c = τ c := hd c ⟨h1, h1'⟩
  have e2 : τ' (τ c 0) = τ (τ c 0) := hd _ h3.1.1
  have e3 : τ' (τ (τ c 0) 1) = τ (τ (τ c 0) 1) := hd _ h3.2.1.1
  have e4 : τ' (τ c 1) = τ (τ c 1) := hd _ h4.1.1
  have e5 : τ' (τ (τ c 1) 0) = τ (τ (τ c 1) 0) := hd _ h4.2.2.1.1
  constructor
  · unfold CH
    rw [e1, e2, e3, e4, e5]
    refine ⟨⟨hm _ ⟨h1, h1'⟩, h2⟩, (h3.kept hd).more hm, (h4.kept hd).more hm, h5, h6, h7, fun i x ds hi hj => ?_⟩
    refine XV_more (fun y hy => ?_) _ _ _ (XV_kept (fun y hy => ?_) _ _ _ (h8 i x ds hi hj))
    · unfold chn at *
      rw [e1, e2, e4]
      omega
    · exact hd y hy.1
  · unfold pot
    rw [e1, e2, e3, e4, e5]
theorem lstX.at2 {S : Int → Prop} {lc : Int} {es : List Int} (h : lstX τ S lc es) (h1 : τ' lc = τ lc) (h2 : τ' (τ lc 1) = τ (τ lc 1)) : lstX τ' S lc es := by
  unfold lstX at *
  rw [h1, h2]
  exact h
theorem sbdX.at2 {S : Int → Prop} {lc : Int} {es : List Int} (h : sbdX τ S lc es) (h1 : τ' lc = τ lc) (h2 : τ' (τ lc 0) = τ (τ lc 0)) : sbdX τ' S lc es := by
  unfold sbdX at *
  rw [h1, h2]
  exact h
/-- the chain's own cells lie below a bound -/
def chLt (τ : XS) (c N1 : Int) : Prop := c < N1 ∧ τ c 0 < N1 ∧ τ (τ c 0) 1 < N1 ∧ τ c 1 < N1 ∧ τ (τ c 1) 0 < N1
theorem CH.lt {N0 : Int} {fl : Bool} {d : Nat} {c : Int} {es sg : List Int} {css : List (List Int)} (h : CH τ N0 fl d c es sg css) : chLt τ c (τ (-1) 0) := by
  obtain ⟨⟨⟨h1, h1'⟩, h2⟩, h3, h4, h5, h6, h7, h8⟩ := h
  exact ⟨h1', h3.1.1.2, h3.2.1.1.2, h4.1.1.2, h4.2.2.1.1.2⟩
theorem chLt_keep {N0 : Int} (hN0 : 1514 ≤ N0) {fl : Bool} {d : Nat} {c : Int} {es sg : List Int} {css : List (List Int)} (h : CH τ N0 fl d c es sg css) (he : ext τ τ') : chLt τ' c (τ (-1) 0) := by
  have hl := h.lt
  obtain ⟨⟨⟨h1, h1'⟩, h2⟩, h3, h4, h5, h6, h7, h8⟩ := h
  have hd : ∀ y, rg N0 (τ (-1) 0) y → τ' y = τ y := fun y hy => by unfold rg at hy; exact he.2.2.1 y (by omega) (by omega) (by omega) hy.2
  unfold chLt
  rw [hd c ⟨h1, h1'⟩, hd _ h3.1.1, hd _ h4.1.1]
  exact hl
theorem CH.add {τ0 : XS} (h0 : ext τ0 τ) {N0 : Int} (hN : τ0 (-1) 0 = N0) (hN0 : 1514 ≤ N0) (ha : al τ) {fl : Bool} {d : Nat} {c : Int} {es sg : List Int} {css : List (List Int)} (h : CH τ N0 fl d c es sg css) (hlen : es.length ≤ 1650) {x N1 ch : Int} {ds : List Int} (hx : XV τ (rg N1 (τ (-1) 0)) fl d x ds) (hN1 : N0 ≤ N1) (hlt : chLt τ c N1) (hch : ch = 43 ∨ ch = 45 ∨ ch = 42 ∨ ch = 47) :
    ∃ τ', x17_add true c ch x τ = some (0, τ') ∧ ext τ0 τ' ∧ al τ' ∧ CH τ' N0 fl d c (es ++ [x]) (sg ++ [ch]) (css ++ [ds]) ∧ τ' 7 = τ 7 ∧ τ' 8 = τ 8 ∧ (τ (-1) 0 ≤ τ' (-1) 0 ∧ τ' (-1) 0 ≤ τ (-1) 0 + 2) ∧ τ' (-1) 1 - pot τ' c ≤ τ (-1) 1 - pot τ c := by
  obtain ⟨⟨⟨h1, h1'⟩, h2⟩, h3, h4, ⟨h5, h5'⟩, ⟨h6, h6'⟩, h7, h8⟩ := h
  obtain ⟨u1, u2, u3, u4, u5⟩ := hlt
  have hr : ∀ y, rg N0 (τ (-1) 0) y → 1514 ≤ y := fun y hy => by unfold rg at hy; omega
  have xt := XV_tag hx
  have xr := XV_dyn hx
  have hxN : N1 ≤ x ∧ x < τ (-1) 0 := xr
  -- the cells
  have r1 := h3.1.1
  have r2 := h3.2.1.1
  have r3 := h4.1.1
  have r4 := h4.2.2.1.1
  have g1 := h3.1.2
  have g2 := h3.2.1.2
  have g3 := h4.1.2
  have g4 := h4.2.2.1.2
  generalize hlc : τ c 0 = lc at *
  generalize har : τ lc 1 = ar at *
  generalize hsc : τ c 1 = sc at *
  generalize hba : τ sc 0 = ba at *
  unfold rg at r1 r2 r3 r4
  have d1 : c ≠ lc := fun e => by rw [e] at h2; omega
  have d2 : c ≠ ar := fun e => by rw [e] at h2; omega
  have d3 : c ≠ sc := fun e => by rw [e] at h2; omega
  have d4 : c ≠ ba := fun e => by rw [e] at h2; omega
  have d5 : lc ≠ ar := fun e => by rw [e] at g1; omega
  have d6 : lc ≠ sc := fun e => by rw [e] at g1; omega
  have d7 : lc ≠ ba := fun e => by rw [e] at g1; omega
  have d8 : ar ≠ sc := fun e => by rw [e] at g2; omega
  have d9 : ar ≠ ba := fun e => by rw [e] at g2; omega
  have d10 : sc ≠ ba := fun e => by rw [e] at g3; omega
  obtain ⟨s1, a1, a2, a3, a4, a5, a6, a7, a8, a9⟩ := append_ev ha (S := rg N0 (τ (-1) 0)) hr (sc := sc) (ch := ch) h4 (by rw [hba]; exact h5') (by omega) (by omega)
  rw [hba] at a4 a8
  -- what the builder keeps
  have k1 : ∀ y, rg N0 (τ (-1) 0) y → y ≠ sc → y ≠ ba → s1 y = τ y := fun y hy y1 y2 => by
    unfold rg at hy
    refine a3 y (by omega) y1 ?_
    rcases a4 with a4 | a4 <;> rw [a4.1] <;> omega
  have e1 : s1 c = τ c := k1 c ⟨h1, h1'⟩ d3 d4
  have e2 : s1 lc = τ lc := k1 lc r1 d6 d7
  have e3 : s1 ar = τ ar := k1 ar r2 d8 d9
  have l1 : lstX s1 (rg N0 (τ (-1) 0)) lc es := h3.at2 e2 (by rw [har]; exact e3)
  have ex : s1 x = τ x := k1 x (by unfold rg; omega) (by omega) (by omega)
  obtain ⟨s2, b1, b2, b3, b4, b5, b6, b7, b8, b9⟩ := add_ev a2 (S := rg N0 (τ (-1) 0)) hr (lc := lc) (x := x) l1 (by rw [e2, har, e3]; exact h5) (by omega) ⟨by omega, by rw [ex]; exact xt⟩ (fun y hy => by
    obtain ⟨i, hi, rfl⟩ := List.getElem_of_mem hy
    have q := h8 i _ _ (List.getElem?_eq_getElem hi) (List.getElem?_eq_getElem (by omega))
    have q1 := XV_dyn q
    unfold chn at q1
    rw [hlc, hsc, har, hba] at q1
    rw [k1 _ (by unfold rg; omega) (by omega) (by omega)]
    exact XV_tag q)
  rw [e2, har] at b4
  rw [e2, har, e3] at b8
  have nb : s1 sc 0 = ba ∨ s1 sc 0 = τ (-1) 0 := by rcases a4 with a4 | a4; exact Or.inl a4.1; exact Or.inr a4.1
  have na : s2 lc 1 = ar ∨ s2 lc 1 = s1 (-1) 0 := by rcases b4 with b4 | b4; exact Or.inl b4.1; exact Or.inr b4.1
  have N1le := a7.1
  have N2le := b7.1
  have barLt : s1 sc 0 < s1 (-1) 0 := by
    rcases a4 with ⟨a4, a4'⟩ | ⟨a4, a4'⟩
    · rw [a4, a4']; omega
    · rw [a4, a4']; omega
  have arrLt : s2 lc 1 < s2 (-1) 0 := by
    rcases b4 with ⟨b4, b4'⟩ | ⟨b4, b4'⟩
    · rw [b4, b4']; omega
    · rw [b4, b4']; omega
  have k2 : ∀ y, y ≠ -1 → y < s1 (-1) 0 → y ≠ lc → y ≠ ar → s2 y = s1 y := fun y y1 y2 y3 y4 => b3 y y1 y3 (by rcases na with e | e <;> rw [e] <;> omega)
  have ba' : s1 sc 0 ≠ lc ∧ s1 sc 0 ≠ ar := by rcases nb with e | e <;> rw [e] <;> constructor <;> omega
  have f1 : s2 c = τ c := by rw [k2 c (by omega) (by omega) d1 d2, e1]
  have f3 : s2 sc = s1 sc := k2 sc (by omega) (by omega) (by omega) (by omega)
  have f4 : s2 (s1 sc 0) = s1 (s1 sc 0) := k2 _ (by rcases nb with e | e <;> rw [e] <;> omega) barLt ba'.1 ba'.2
  have kk : ∀ y, rg N0 (τ (-1) 0) y → y ≠ lc → y ≠ ar → y ≠ sc → y ≠ ba → s2 y = τ y := fun y hy y1 y2 y3 y4 => by
    have hy' := hy
    unfold rg at hy'
    rw [k2 y (by omega) (by omega) y1 y2, k1 y hy y3 y4]
  have S' : ∀ y, rg N0 (τ (-1) 0) y → rg N0 (s2 (-1) 0) y := fun y hy => by unfold rg at *; omega
  have t0 := tgf (τ := τ) (t := 14) (new_fre (show 1514 ≤ c by omega)) h2
  have t1 := tgf (τ := τ) (t := 23) (new_fre (show 1514 ≤ sc by omega)) g3
  have t2 := tgf (τ := s1) (t := 14) (new_fre (show 1514 ≤ c by omega)) (by rw [e1]; exact h2)
  have t3 := tgf (τ := s1) (t := 21) (new_fre (show 1514 ≤ lc by omega)) (by rw [e2]; exact g1)
  have n1 := fre_nf (new_fre (show 1514 ≤ sc by omega))
  have n2 := fre_nf (new_fre (show 1514 ≤ lc by omega))
  refine ⟨s2, ?_, ?_, b2, ?_, ?_, ?_, by omega, ?_⟩
  · unfold x17_add
    simp (disch := omega) only [gd_t, gd_T, gd_ok, not_false_eq_true, eq_self, bnd_r, bind_s, ite_t, ite_n, ite_T, ite_F, i32_id, t0, hsc, n1, t1, a1, t2, e1, hlc, n2, t3, b1]
  · refine ⟨⟨by have := h0.1.1; omega, by have := h0.1.2; omega⟩, fun i hi => by rw [b9 i hi, a9 i hi, h0.2.1 i hi], fun y y1 y2 y3 y4 => ?_, fun i i1 i2 i3 => ?_⟩
    · have e : s2 y = τ y := by
        rw [b3 y y1 (by omega) (by rcases na with e | e <;> rw [e] <;> omega), a3 y y1 (by omega) (by rcases nb with e | e <;> rw [e] <;> omega)]
      rw [e]; exact h0.2.2.1 y y1 y2 y3 y4
    · have e : s2 7 = τ 7 := by
        rw [b3 7 (by omega) (by omega) (by rcases na with e | e <;> rw [e] <;> omega), a3 7 (by omega) (by omega) (by rcases nb with e | e <;> rw [e] <;> omega)]
      rw [e]; exact h0.2.2.2 i i1 i2 i3
  · have hl2 := b5 (rg N0 (s2 (-1) 0)) S' (by unfold rg; omega) (by unfold rg; rcases na with e | e <;> rw [e] <;> omega)
    have hs1 := a5 (rg N0 (s2 (-1) 0)) S' (by unfold rg; rcases nb with e | e <;> rw [e] <;> omega)
    have hs2 := hs1.at2 f3 f4
    have f5 : s2 sc 0 = s1 sc 0 := by rw [f3]
    unfold CH
    rw [f1, hlc, hsc, f5, f4]
    refine ⟨⟨S' c ⟨h1, h1'⟩, h2⟩, hl2, hs2, ⟨by rw [List.length_append, List.length_singleton]; exact ⟨b6.1, by have := b6.2; omega⟩, by rw [List.length_append, List.length_singleton]; exact ⟨a6.1, by have := a6.2; omega⟩⟩, ⟨by simp [h6], by simp [h6']⟩, ?_, ?_⟩
    · intro y hy
      rcases List.mem_append.mp hy with hy | hy
      · exact h7 y hy
      · rw [List.mem_singleton.mp hy]; exact hch
    · intro i y es' hi hj
      have more : ∀ z, (rg N0 (τ (-1) 0) z ∧ z ≠ c ∧ z ≠ lc ∧ z ≠ ar ∧ z ≠ sc ∧ z ≠ ba) → chn s2 N0 c z := fun z hz => by
        have hz1 := hz.1
        unfold rg at hz1
        unfold chn
        rw [f1, hlc, hsc, f3]
        refine ⟨⟨hz1.1, by omega⟩, hz.2.1, hz.2.2.1, ?_, hz.2.2.2.2.1, ?_⟩
        · rcases na with e | e <;> rw [e] <;> omega
        · rcases nb with e | e <;> rw [e] <;> omega
      by_cases q : i < es.length
      · rw [List.getElem?_append_left q] at hi
        rw [List.getElem?_append_left (by omega)] at hj
        have hx0 := h8 i y es' hi hj
        have sub : ∀ z, chn τ N0 c z → rg N0 (τ (-1) 0) z ∧ z ≠ c ∧ z ≠ lc ∧ z ≠ ar ∧ z ≠ sc ∧ z ≠ ba := fun z hz => by
          unfold chn at hz
          rw [hlc, hsc, har, hba] at hz
          exact ⟨hz.1, hz.2⟩
        exact XV_more (fun z hz => more z (sub z hz)) _ _ _ (XV_kept (fun z hz => by
          have := sub z hz
          exact kk z this.1 this.2.2.1 this.2.2.2.1 this.2.2.2.2.1 this.2.2.2.2.2) _ _ _ hx0)
      · rw [List.getElem?_append_right (by omega)] at hi
        rw [List.getElem?_append_right (by omega)] at hj
        have hi0 : i = es.length := by
          have := (List.getElem?_eq_some_iff.mp hi).1
          simp at this
          omega
        rw [hi0] at hi hj
        rw [show es.length - css.length = 0 by omega] at hj
        simp at hi hj
        subst hi
        subst hj
        have sub : ∀ z, rg N1 (τ (-1) 0) z → rg N0 (τ (-1) 0) z ∧ z ≠ c ∧ z ≠ lc ∧ z ≠ ar ∧ z ≠ sc ∧ z ≠ ba := fun z hz => by
          unfold rg at *
          omega
        exact XV_more (fun z hz => more z (sub z hz)) _ _ _ (XV_kept (fun z hz => by
          have := sub z hz
          exact kk z this.1 this.2.2.1 this.2.2.2.1 this.2.2.2.2.1 this.2.2.2.2.2) _ _ _ hx)
  · rw [b3 7 (by omega) (by omega) (by rcases na with e | e <;> rw [e] <;> omega), a3 7 (by omega) (by omega) (by rcases nb with e | e <;> rw [e] <;> omega)]
  · rw [b3 8 (by omega) (by omega) (by rcases na with e | e <;> rw [e] <;> omega), a3 8 (by omega) (by omega) (by rcases nb with e | e <;> rw [e] <;> omega)]
  · unfold pot
    rw [f1, hlc, hsc, har, hba, f3, f4]
    have := a8.2
    have := b8.2
    omega
end
